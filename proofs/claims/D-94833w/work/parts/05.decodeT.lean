set_option maxRecDepth 100000
def dkwX3_init_14 : List UInt8 := [17, 0, 144, 188, 10, 181, 0, 128, 42, 16, 72, 188, 10, 181, 0, 131, 177]
abbrev dktX3_init_14 : List UInt8 := dkwX3_init_14 ++ []
def dkwX3_init_13 : List UInt8 := [188, 10, 181, 0, 119, 42, 16, 36, 188, 10, 181, 0, 122, 42, 16, 8, 188, 10, 181, 0, 125, 42]
abbrev dktX3_init_13 : List UInt8 := dkwX3_init_13 ++ dktX3_init_14
def dkwX3_init_12 : List UInt8 := [188, 10, 181, 0, 110, 42, 16, 6, 188, 10, 181, 0, 113, 42, 17, 1, 0, 188, 10, 181, 0, 116, 42, 6]
abbrev dktX3_init_12 : List UInt8 := dkwX3_init_12 ++ dktX3_init_13
def dkwX3_init_11 : List UInt8 := [188, 10, 181, 0, 101, 42, 6, 188, 10, 181, 0, 104, 42, 16, 8, 188, 10, 181, 0, 107, 42, 16, 6]
abbrev dktX3_init_11 : List UInt8 := dkwX3_init_11 ++ dktX3_init_12
def dkwX3_init_10 : List UInt8 := [188, 10, 181, 0, 92, 42, 16, 6, 188, 10, 181, 0, 95, 42, 16, 6, 188, 10, 181, 0, 98, 42, 6]
abbrev dktX3_init_10 : List UInt8 := dkwX3_init_10 ++ dktX3_init_11
def dkwX3_init_9 : List UInt8 := [188, 10, 181, 0, 83, 42, 16, 8, 188, 10, 181, 0, 86, 42, 16, 48, 188, 10, 181, 0, 89, 42, 16, 6]
abbrev dktX3_init_9 : List UInt8 := dkwX3_init_9 ++ dktX3_init_10
def dkwX3_init_8 : List UInt8 := [181, 0, 74, 42, 16, 6, 188, 10, 181, 0, 77, 42, 17, 93, 192, 188, 10, 181, 0, 80, 42, 16, 8]
abbrev dktX3_init_8 : List UInt8 := dkwX3_init_8 ++ dktX3_init_9
def dkwX3_init_7 : List UInt8 := [188, 10, 181, 0, 65, 42, 16, 72, 188, 10, 181, 0, 68, 42, 2, 181, 0, 71, 42, 16, 8, 188, 10]
abbrev dktX3_init_7 : List UInt8 := dkwX3_init_7 ++ dktX3_init_8
def dkwX3_init_6 : List UInt8 := [181, 0, 56, 42, 17, 0, 144, 188, 10, 181, 0, 59, 42, 16, 36, 188, 10, 181, 0, 62, 42, 17, 0, 144]
abbrev dktX3_init_6 : List UInt8 := dkwX3_init_6 ++ dktX3_init_7
def dkwX3_init_5 : List UInt8 := [181, 0, 47, 42, 16, 12, 188, 10, 181, 0, 50, 42, 6, 188, 10, 181, 0, 53, 42, 7, 188, 10]
abbrev dktX3_init_5 : List UInt8 := dkwX3_init_5 ++ dktX3_init_6
def dkwX3_init_4 : List UInt8 := [181, 0, 38, 42, 16, 8, 188, 10, 181, 0, 41, 42, 16, 8, 188, 10, 181, 0, 44, 42, 16, 6, 188, 10]
abbrev dktX3_init_4 : List UInt8 := dkwX3_init_4 ++ dktX3_init_5
def dkwX3_init_3 : List UInt8 := [188, 10, 181, 0, 28, 42, 17, 2, 188, 188, 10, 181, 0, 31, 42, 2, 181, 0, 34, 42, 6, 188, 10]
abbrev dktX3_init_3 : List UInt8 := dkwX3_init_3 ++ dktX3_init_4
def dkwX3_init_2 : List UInt8 := [89, 3, 6, 79, 89, 4, 4, 79, 89, 5, 5, 79, 89, 6, 4, 79, 181, 0, 25, 42, 17, 0, 144]
abbrev dktX3_init_2 : List UInt8 := dkwX3_init_2 ++ dktX3_init_3
def dkwX3_init_1 : List UInt8 := [188, 10, 181, 0, 16, 42, 16, 12, 188, 10, 181, 0, 19, 42, 6, 188, 10, 181, 0, 22, 42, 7, 188, 10]
abbrev dktX3_init_1 : List UInt8 := dkwX3_init_1 ++ dktX3_init_2
def dkwX3_init_0 : List UInt8 := [42, 183, 0, 1, 42, 16, 8, 188, 10, 181, 0, 7, 42, 16, 8, 188, 10, 181, 0, 13, 42, 16, 6]
abbrev dktX3_init_0 : List UInt8 := dkwX3_init_0 ++ dktX3_init_1
theorem dksX3_init_0 : cX3_init.data.toList.drop 0 = dktX3_init_0 := by decide +kernel
theorem dksX3_init_1 : cX3_init.data.toList.drop 23 = dktX3_init_1 := dk_seg dksX3_init_0 23 rfl rfl
theorem dksX3_init_2 : cX3_init.data.toList.drop 47 = dktX3_init_2 := dk_seg dksX3_init_1 24 rfl rfl
theorem dksX3_init_3 : cX3_init.data.toList.drop 70 = dktX3_init_3 := dk_seg dksX3_init_2 23 rfl rfl
theorem dksX3_init_4 : cX3_init.data.toList.drop 93 = dktX3_init_4 := dk_seg dksX3_init_3 23 rfl rfl
theorem dksX3_init_5 : cX3_init.data.toList.drop 117 = dktX3_init_5 := dk_seg dksX3_init_4 24 rfl rfl
theorem dksX3_init_6 : cX3_init.data.toList.drop 139 = dktX3_init_6 := dk_seg dksX3_init_5 22 rfl rfl
theorem dksX3_init_7 : cX3_init.data.toList.drop 163 = dktX3_init_7 := dk_seg dksX3_init_6 24 rfl rfl
theorem dksX3_init_8 : cX3_init.data.toList.drop 186 = dktX3_init_8 := dk_seg dksX3_init_7 23 rfl rfl
theorem dksX3_init_9 : cX3_init.data.toList.drop 209 = dktX3_init_9 := dk_seg dksX3_init_8 23 rfl rfl
theorem dksX3_init_10 : cX3_init.data.toList.drop 233 = dktX3_init_10 := dk_seg dksX3_init_9 24 rfl rfl
theorem dksX3_init_11 : cX3_init.data.toList.drop 256 = dktX3_init_11 := dk_seg dksX3_init_10 23 rfl rfl
theorem dksX3_init_12 : cX3_init.data.toList.drop 279 = dktX3_init_12 := dk_seg dksX3_init_11 23 rfl rfl
theorem dksX3_init_13 : cX3_init.data.toList.drop 303 = dktX3_init_13 := dk_seg dksX3_init_12 24 rfl rfl
theorem dksX3_init_14 : cX3_init.data.toList.drop 325 = dktX3_init_14 := dk_seg dksX3_init_13 22 rfl rfl
theorem dX3_init_0 : decode cX3_init 0 = .ok (.aload_n 0, 1) := dk_42 (dk_at dksX3_init_0 0 rfl rfl)
theorem dX3_init_1 : decode cX3_init 1 = .ok (.invokespecial 1, 3) := dk_183 0 1 (dk_at dksX3_init_0 1 rfl rfl)
theorem dX3_init_4 : decode cX3_init 4 = .ok (.aload_n 0, 1) := dk_42 (dk_at dksX3_init_0 4 rfl rfl)
theorem dX3_init_5 : decode cX3_init 5 = .ok (.bipush 8, 2) := dk_16 8 (dk_at dksX3_init_0 5 rfl rfl)
theorem dX3_init_7 : decode cX3_init 7 = .ok (.newarray .int, 2) := dk_188_10 (dk_at dksX3_init_0 7 rfl rfl)
theorem dX3_init_9 : decode cX3_init 9 = .ok (.putfield 7, 3) := dk_181 0 7 (dk_at dksX3_init_0 9 rfl rfl)
theorem dX3_init_12 : decode cX3_init 12 = .ok (.aload_n 0, 1) := dk_42 (dk_at dksX3_init_0 12 rfl rfl)
theorem dX3_init_13 : decode cX3_init 13 = .ok (.bipush 8, 2) := dk_16 8 (dk_at dksX3_init_0 13 rfl rfl)
theorem dX3_init_15 : decode cX3_init 15 = .ok (.newarray .int, 2) := dk_188_10 (dk_at dksX3_init_0 15 rfl rfl)
theorem dX3_init_17 : decode cX3_init 17 = .ok (.putfield 13, 3) := dk_181 0 13 (dk_at dksX3_init_0 17 rfl rfl)
theorem dX3_init_20 : decode cX3_init 20 = .ok (.aload_n 0, 1) := dk_42 (dk_at dksX3_init_0 20 rfl rfl)
theorem dX3_init_21 : decode cX3_init 21 = .ok (.bipush 6, 2) := dk_16 6 (dk_at dksX3_init_0 21 rfl rfl)
theorem dX3_init_23 : decode cX3_init 23 = .ok (.newarray .int, 2) := dk_188_10 (dk_at dksX3_init_1 0 rfl rfl)
theorem dX3_init_25 : decode cX3_init 25 = .ok (.putfield 16, 3) := dk_181 0 16 (dk_at dksX3_init_1 2 rfl rfl)
theorem dX3_init_28 : decode cX3_init 28 = .ok (.aload_n 0, 1) := dk_42 (dk_at dksX3_init_1 5 rfl rfl)
theorem dX3_init_29 : decode cX3_init 29 = .ok (.bipush 12, 2) := dk_16 12 (dk_at dksX3_init_1 6 rfl rfl)
theorem dX3_init_31 : decode cX3_init 31 = .ok (.newarray .int, 2) := dk_188_10 (dk_at dksX3_init_1 8 rfl rfl)
theorem dX3_init_33 : decode cX3_init 33 = .ok (.putfield 19, 3) := dk_181 0 19 (dk_at dksX3_init_1 10 rfl rfl)
theorem dX3_init_36 : decode cX3_init 36 = .ok (.aload_n 0, 1) := dk_42 (dk_at dksX3_init_1 13 rfl rfl)
theorem dX3_init_37 : decode cX3_init 37 = .ok (.iconst 3, 1) := dk_6 (dk_at dksX3_init_1 14 rfl rfl)
theorem dX3_init_38 : decode cX3_init 38 = .ok (.newarray .int, 2) := dk_188_10 (dk_at dksX3_init_1 15 rfl rfl)
theorem dX3_init_40 : decode cX3_init 40 = .ok (.putfield 22, 3) := dk_181 0 22 (dk_at dksX3_init_1 17 rfl rfl)
theorem dX3_init_43 : decode cX3_init 43 = .ok (.aload_n 0, 1) := dk_42 (dk_at dksX3_init_1 20 rfl rfl)
theorem dX3_init_44 : decode cX3_init 44 = .ok (.iconst 4, 1) := dk_7 (dk_at dksX3_init_1 21 rfl rfl)
theorem dX3_init_45 : decode cX3_init 45 = .ok (.newarray .int, 2) := dk_188_10 (dk_at dksX3_init_1 22 rfl rfl)
theorem dX3_init_47 : decode cX3_init 47 = .ok (.dup, 1) := dk_89 (dk_at dksX3_init_2 0 rfl rfl)
theorem dX3_init_48 : decode cX3_init 48 = .ok (.iconst 0, 1) := dk_3 (dk_at dksX3_init_2 1 rfl rfl)
theorem dX3_init_49 : decode cX3_init 49 = .ok (.iconst 3, 1) := dk_6 (dk_at dksX3_init_2 2 rfl rfl)
theorem dX3_init_50 : decode cX3_init 50 = .ok (.iastore, 1) := dk_79 (dk_at dksX3_init_2 3 rfl rfl)
theorem dX3_init_51 : decode cX3_init 51 = .ok (.dup, 1) := dk_89 (dk_at dksX3_init_2 4 rfl rfl)
theorem dX3_init_52 : decode cX3_init 52 = .ok (.iconst 1, 1) := dk_4 (dk_at dksX3_init_2 5 rfl rfl)
theorem dX3_init_53 : decode cX3_init 53 = .ok (.iconst 1, 1) := dk_4 (dk_at dksX3_init_2 6 rfl rfl)
theorem dX3_init_54 : decode cX3_init 54 = .ok (.iastore, 1) := dk_79 (dk_at dksX3_init_2 7 rfl rfl)
theorem dX3_init_55 : decode cX3_init 55 = .ok (.dup, 1) := dk_89 (dk_at dksX3_init_2 8 rfl rfl)
theorem dX3_init_56 : decode cX3_init 56 = .ok (.iconst 2, 1) := dk_5 (dk_at dksX3_init_2 9 rfl rfl)
theorem dX3_init_57 : decode cX3_init 57 = .ok (.iconst 2, 1) := dk_5 (dk_at dksX3_init_2 10 rfl rfl)
theorem dX3_init_58 : decode cX3_init 58 = .ok (.iastore, 1) := dk_79 (dk_at dksX3_init_2 11 rfl rfl)
theorem dX3_init_59 : decode cX3_init 59 = .ok (.dup, 1) := dk_89 (dk_at dksX3_init_2 12 rfl rfl)
theorem dX3_init_60 : decode cX3_init 60 = .ok (.iconst 3, 1) := dk_6 (dk_at dksX3_init_2 13 rfl rfl)
theorem dX3_init_61 : decode cX3_init 61 = .ok (.iconst 1, 1) := dk_4 (dk_at dksX3_init_2 14 rfl rfl)
theorem dX3_init_62 : decode cX3_init 62 = .ok (.iastore, 1) := dk_79 (dk_at dksX3_init_2 15 rfl rfl)
theorem dX3_init_63 : decode cX3_init 63 = .ok (.putfield 25, 3) := dk_181 0 25 (dk_at dksX3_init_2 16 rfl rfl)
theorem dX3_init_66 : decode cX3_init 66 = .ok (.aload_n 0, 1) := dk_42 (dk_at dksX3_init_2 19 rfl rfl)
theorem dX3_init_67 : decode cX3_init 67 = .ok (.sipush 144, 3) := dk_17 0 144 (dk_at dksX3_init_2 20 rfl rfl)
theorem dX3_init_70 : decode cX3_init 70 = .ok (.newarray .int, 2) := dk_188_10 (dk_at dksX3_init_3 0 rfl rfl)
theorem dX3_init_72 : decode cX3_init 72 = .ok (.putfield 28, 3) := dk_181 0 28 (dk_at dksX3_init_3 2 rfl rfl)
theorem dX3_init_75 : decode cX3_init 75 = .ok (.aload_n 0, 1) := dk_42 (dk_at dksX3_init_3 5 rfl rfl)
theorem dX3_init_76 : decode cX3_init 76 = .ok (.sipush 700, 3) := dk_17 2 188 (dk_at dksX3_init_3 6 rfl rfl)
theorem dX3_init_79 : decode cX3_init 79 = .ok (.newarray .int, 2) := dk_188_10 (dk_at dksX3_init_3 9 rfl rfl)
theorem dX3_init_81 : decode cX3_init 81 = .ok (.putfield 31, 3) := dk_181 0 31 (dk_at dksX3_init_3 11 rfl rfl)
theorem dX3_init_84 : decode cX3_init 84 = .ok (.aload_n 0, 1) := dk_42 (dk_at dksX3_init_3 14 rfl rfl)
theorem dX3_init_85 : decode cX3_init 85 = .ok (.iconst (-1), 1) := dk_2 (dk_at dksX3_init_3 15 rfl rfl)
theorem dX3_init_86 : decode cX3_init 86 = .ok (.putfield 34, 3) := dk_181 0 34 (dk_at dksX3_init_3 16 rfl rfl)
theorem dX3_init_89 : decode cX3_init 89 = .ok (.aload_n 0, 1) := dk_42 (dk_at dksX3_init_3 19 rfl rfl)
theorem dX3_init_90 : decode cX3_init 90 = .ok (.iconst 3, 1) := dk_6 (dk_at dksX3_init_3 20 rfl rfl)
theorem dX3_init_91 : decode cX3_init 91 = .ok (.newarray .int, 2) := dk_188_10 (dk_at dksX3_init_3 21 rfl rfl)
theorem dX3_init_93 : decode cX3_init 93 = .ok (.putfield 38, 3) := dk_181 0 38 (dk_at dksX3_init_4 0 rfl rfl)
theorem dX3_init_96 : decode cX3_init 96 = .ok (.aload_n 0, 1) := dk_42 (dk_at dksX3_init_4 3 rfl rfl)
theorem dX3_init_97 : decode cX3_init 97 = .ok (.bipush 8, 2) := dk_16 8 (dk_at dksX3_init_4 4 rfl rfl)
theorem dX3_init_99 : decode cX3_init 99 = .ok (.newarray .int, 2) := dk_188_10 (dk_at dksX3_init_4 6 rfl rfl)
theorem dX3_init_101 : decode cX3_init 101 = .ok (.putfield 41, 3) := dk_181 0 41 (dk_at dksX3_init_4 8 rfl rfl)
theorem dX3_init_104 : decode cX3_init 104 = .ok (.aload_n 0, 1) := dk_42 (dk_at dksX3_init_4 11 rfl rfl)
theorem dX3_init_105 : decode cX3_init 105 = .ok (.bipush 8, 2) := dk_16 8 (dk_at dksX3_init_4 12 rfl rfl)
theorem dX3_init_107 : decode cX3_init 107 = .ok (.newarray .int, 2) := dk_188_10 (dk_at dksX3_init_4 14 rfl rfl)
theorem dX3_init_109 : decode cX3_init 109 = .ok (.putfield 44, 3) := dk_181 0 44 (dk_at dksX3_init_4 16 rfl rfl)
theorem dX3_init_112 : decode cX3_init 112 = .ok (.aload_n 0, 1) := dk_42 (dk_at dksX3_init_4 19 rfl rfl)
theorem dX3_init_113 : decode cX3_init 113 = .ok (.bipush 6, 2) := dk_16 6 (dk_at dksX3_init_4 20 rfl rfl)
theorem dX3_init_115 : decode cX3_init 115 = .ok (.newarray .int, 2) := dk_188_10 (dk_at dksX3_init_4 22 rfl rfl)
theorem dX3_init_117 : decode cX3_init 117 = .ok (.putfield 47, 3) := dk_181 0 47 (dk_at dksX3_init_5 0 rfl rfl)
theorem dX3_init_120 : decode cX3_init 120 = .ok (.aload_n 0, 1) := dk_42 (dk_at dksX3_init_5 3 rfl rfl)
theorem dX3_init_121 : decode cX3_init 121 = .ok (.bipush 12, 2) := dk_16 12 (dk_at dksX3_init_5 4 rfl rfl)
theorem dX3_init_123 : decode cX3_init 123 = .ok (.newarray .int, 2) := dk_188_10 (dk_at dksX3_init_5 6 rfl rfl)
theorem dX3_init_125 : decode cX3_init 125 = .ok (.putfield 50, 3) := dk_181 0 50 (dk_at dksX3_init_5 8 rfl rfl)
theorem dX3_init_128 : decode cX3_init 128 = .ok (.aload_n 0, 1) := dk_42 (dk_at dksX3_init_5 11 rfl rfl)
theorem dX3_init_129 : decode cX3_init 129 = .ok (.iconst 3, 1) := dk_6 (dk_at dksX3_init_5 12 rfl rfl)
theorem dX3_init_130 : decode cX3_init 130 = .ok (.newarray .int, 2) := dk_188_10 (dk_at dksX3_init_5 13 rfl rfl)
theorem dX3_init_132 : decode cX3_init 132 = .ok (.putfield 53, 3) := dk_181 0 53 (dk_at dksX3_init_5 15 rfl rfl)
theorem dX3_init_135 : decode cX3_init 135 = .ok (.aload_n 0, 1) := dk_42 (dk_at dksX3_init_5 18 rfl rfl)
theorem dX3_init_136 : decode cX3_init 136 = .ok (.iconst 4, 1) := dk_7 (dk_at dksX3_init_5 19 rfl rfl)
theorem dX3_init_137 : decode cX3_init 137 = .ok (.newarray .int, 2) := dk_188_10 (dk_at dksX3_init_5 20 rfl rfl)
theorem dX3_init_139 : decode cX3_init 139 = .ok (.putfield 56, 3) := dk_181 0 56 (dk_at dksX3_init_6 0 rfl rfl)
theorem dX3_init_142 : decode cX3_init 142 = .ok (.aload_n 0, 1) := dk_42 (dk_at dksX3_init_6 3 rfl rfl)
theorem dX3_init_143 : decode cX3_init 143 = .ok (.sipush 144, 3) := dk_17 0 144 (dk_at dksX3_init_6 4 rfl rfl)
theorem dX3_init_146 : decode cX3_init 146 = .ok (.newarray .int, 2) := dk_188_10 (dk_at dksX3_init_6 7 rfl rfl)
theorem dX3_init_148 : decode cX3_init 148 = .ok (.putfield 59, 3) := dk_181 0 59 (dk_at dksX3_init_6 9 rfl rfl)
theorem dX3_init_151 : decode cX3_init 151 = .ok (.aload_n 0, 1) := dk_42 (dk_at dksX3_init_6 12 rfl rfl)
theorem dX3_init_152 : decode cX3_init 152 = .ok (.bipush 36, 2) := dk_16 36 (dk_at dksX3_init_6 13 rfl rfl)
theorem dX3_init_154 : decode cX3_init 154 = .ok (.newarray .int, 2) := dk_188_10 (dk_at dksX3_init_6 15 rfl rfl)
theorem dX3_init_156 : decode cX3_init 156 = .ok (.putfield 62, 3) := dk_181 0 62 (dk_at dksX3_init_6 17 rfl rfl)
theorem dX3_init_159 : decode cX3_init 159 = .ok (.aload_n 0, 1) := dk_42 (dk_at dksX3_init_6 20 rfl rfl)
theorem dX3_init_160 : decode cX3_init 160 = .ok (.sipush 144, 3) := dk_17 0 144 (dk_at dksX3_init_6 21 rfl rfl)
theorem dX3_init_163 : decode cX3_init 163 = .ok (.newarray .int, 2) := dk_188_10 (dk_at dksX3_init_7 0 rfl rfl)
theorem dX3_init_165 : decode cX3_init 165 = .ok (.putfield 65, 3) := dk_181 0 65 (dk_at dksX3_init_7 2 rfl rfl)
theorem dX3_init_168 : decode cX3_init 168 = .ok (.aload_n 0, 1) := dk_42 (dk_at dksX3_init_7 5 rfl rfl)
theorem dX3_init_169 : decode cX3_init 169 = .ok (.bipush 72, 2) := dk_16 72 (dk_at dksX3_init_7 6 rfl rfl)
theorem dX3_init_171 : decode cX3_init 171 = .ok (.newarray .int, 2) := dk_188_10 (dk_at dksX3_init_7 8 rfl rfl)
theorem dX3_init_173 : decode cX3_init 173 = .ok (.putfield 68, 3) := dk_181 0 68 (dk_at dksX3_init_7 10 rfl rfl)
theorem dX3_init_176 : decode cX3_init 176 = .ok (.aload_n 0, 1) := dk_42 (dk_at dksX3_init_7 13 rfl rfl)
theorem dX3_init_177 : decode cX3_init 177 = .ok (.iconst (-1), 1) := dk_2 (dk_at dksX3_init_7 14 rfl rfl)
theorem dX3_init_178 : decode cX3_init 178 = .ok (.putfield 71, 3) := dk_181 0 71 (dk_at dksX3_init_7 15 rfl rfl)
theorem dX3_init_181 : decode cX3_init 181 = .ok (.aload_n 0, 1) := dk_42 (dk_at dksX3_init_7 18 rfl rfl)
theorem dX3_init_182 : decode cX3_init 182 = .ok (.bipush 8, 2) := dk_16 8 (dk_at dksX3_init_7 19 rfl rfl)
theorem dX3_init_184 : decode cX3_init 184 = .ok (.newarray .int, 2) := dk_188_10 (dk_at dksX3_init_7 21 rfl rfl)
theorem dX3_init_186 : decode cX3_init 186 = .ok (.putfield 74, 3) := dk_181 0 74 (dk_at dksX3_init_8 0 rfl rfl)
theorem dX3_init_189 : decode cX3_init 189 = .ok (.aload_n 0, 1) := dk_42 (dk_at dksX3_init_8 3 rfl rfl)
theorem dX3_init_190 : decode cX3_init 190 = .ok (.bipush 6, 2) := dk_16 6 (dk_at dksX3_init_8 4 rfl rfl)
theorem dX3_init_192 : decode cX3_init 192 = .ok (.newarray .int, 2) := dk_188_10 (dk_at dksX3_init_8 6 rfl rfl)
theorem dX3_init_194 : decode cX3_init 194 = .ok (.putfield 77, 3) := dk_181 0 77 (dk_at dksX3_init_8 8 rfl rfl)
theorem dX3_init_197 : decode cX3_init 197 = .ok (.aload_n 0, 1) := dk_42 (dk_at dksX3_init_8 11 rfl rfl)
theorem dX3_init_198 : decode cX3_init 198 = .ok (.sipush 24000, 3) := dk_17 93 192 (dk_at dksX3_init_8 12 rfl rfl)
theorem dX3_init_201 : decode cX3_init 201 = .ok (.newarray .int, 2) := dk_188_10 (dk_at dksX3_init_8 15 rfl rfl)
theorem dX3_init_203 : decode cX3_init 203 = .ok (.putfield 80, 3) := dk_181 0 80 (dk_at dksX3_init_8 17 rfl rfl)
theorem dX3_init_206 : decode cX3_init 206 = .ok (.aload_n 0, 1) := dk_42 (dk_at dksX3_init_8 20 rfl rfl)
theorem dX3_init_207 : decode cX3_init 207 = .ok (.bipush 8, 2) := dk_16 8 (dk_at dksX3_init_8 21 rfl rfl)
theorem dX3_init_209 : decode cX3_init 209 = .ok (.newarray .int, 2) := dk_188_10 (dk_at dksX3_init_9 0 rfl rfl)
theorem dX3_init_211 : decode cX3_init 211 = .ok (.putfield 83, 3) := dk_181 0 83 (dk_at dksX3_init_9 2 rfl rfl)
theorem dX3_init_214 : decode cX3_init 214 = .ok (.aload_n 0, 1) := dk_42 (dk_at dksX3_init_9 5 rfl rfl)
theorem dX3_init_215 : decode cX3_init 215 = .ok (.bipush 8, 2) := dk_16 8 (dk_at dksX3_init_9 6 rfl rfl)
theorem dX3_init_217 : decode cX3_init 217 = .ok (.newarray .int, 2) := dk_188_10 (dk_at dksX3_init_9 8 rfl rfl)
theorem dX3_init_219 : decode cX3_init 219 = .ok (.putfield 86, 3) := dk_181 0 86 (dk_at dksX3_init_9 10 rfl rfl)
theorem dX3_init_222 : decode cX3_init 222 = .ok (.aload_n 0, 1) := dk_42 (dk_at dksX3_init_9 13 rfl rfl)
theorem dX3_init_223 : decode cX3_init 223 = .ok (.bipush 48, 2) := dk_16 48 (dk_at dksX3_init_9 14 rfl rfl)
theorem dX3_init_225 : decode cX3_init 225 = .ok (.newarray .int, 2) := dk_188_10 (dk_at dksX3_init_9 16 rfl rfl)
theorem dX3_init_227 : decode cX3_init 227 = .ok (.putfield 89, 3) := dk_181 0 89 (dk_at dksX3_init_9 18 rfl rfl)
theorem dX3_init_230 : decode cX3_init 230 = .ok (.aload_n 0, 1) := dk_42 (dk_at dksX3_init_9 21 rfl rfl)
theorem dX3_init_231 : decode cX3_init 231 = .ok (.bipush 6, 2) := dk_16 6 (dk_at dksX3_init_9 22 rfl rfl)
theorem dX3_init_233 : decode cX3_init 233 = .ok (.newarray .int, 2) := dk_188_10 (dk_at dksX3_init_10 0 rfl rfl)
theorem dX3_init_235 : decode cX3_init 235 = .ok (.putfield 92, 3) := dk_181 0 92 (dk_at dksX3_init_10 2 rfl rfl)
theorem dX3_init_238 : decode cX3_init 238 = .ok (.aload_n 0, 1) := dk_42 (dk_at dksX3_init_10 5 rfl rfl)
theorem dX3_init_239 : decode cX3_init 239 = .ok (.bipush 6, 2) := dk_16 6 (dk_at dksX3_init_10 6 rfl rfl)
theorem dX3_init_241 : decode cX3_init 241 = .ok (.newarray .int, 2) := dk_188_10 (dk_at dksX3_init_10 8 rfl rfl)
theorem dX3_init_243 : decode cX3_init 243 = .ok (.putfield 95, 3) := dk_181 0 95 (dk_at dksX3_init_10 10 rfl rfl)
theorem dX3_init_246 : decode cX3_init 246 = .ok (.aload_n 0, 1) := dk_42 (dk_at dksX3_init_10 13 rfl rfl)
theorem dX3_init_247 : decode cX3_init 247 = .ok (.bipush 6, 2) := dk_16 6 (dk_at dksX3_init_10 14 rfl rfl)
theorem dX3_init_249 : decode cX3_init 249 = .ok (.newarray .int, 2) := dk_188_10 (dk_at dksX3_init_10 16 rfl rfl)
theorem dX3_init_251 : decode cX3_init 251 = .ok (.putfield 98, 3) := dk_181 0 98 (dk_at dksX3_init_10 18 rfl rfl)
theorem dX3_init_254 : decode cX3_init 254 = .ok (.aload_n 0, 1) := dk_42 (dk_at dksX3_init_10 21 rfl rfl)
theorem dX3_init_255 : decode cX3_init 255 = .ok (.iconst 3, 1) := dk_6 (dk_at dksX3_init_10 22 rfl rfl)
theorem dX3_init_256 : decode cX3_init 256 = .ok (.newarray .int, 2) := dk_188_10 (dk_at dksX3_init_11 0 rfl rfl)
theorem dX3_init_258 : decode cX3_init 258 = .ok (.putfield 101, 3) := dk_181 0 101 (dk_at dksX3_init_11 2 rfl rfl)
theorem dX3_init_261 : decode cX3_init 261 = .ok (.aload_n 0, 1) := dk_42 (dk_at dksX3_init_11 5 rfl rfl)
theorem dX3_init_262 : decode cX3_init 262 = .ok (.iconst 3, 1) := dk_6 (dk_at dksX3_init_11 6 rfl rfl)
theorem dX3_init_263 : decode cX3_init 263 = .ok (.newarray .int, 2) := dk_188_10 (dk_at dksX3_init_11 7 rfl rfl)
theorem dX3_init_265 : decode cX3_init 265 = .ok (.putfield 104, 3) := dk_181 0 104 (dk_at dksX3_init_11 9 rfl rfl)
theorem dX3_init_268 : decode cX3_init 268 = .ok (.aload_n 0, 1) := dk_42 (dk_at dksX3_init_11 12 rfl rfl)
theorem dX3_init_269 : decode cX3_init 269 = .ok (.bipush 8, 2) := dk_16 8 (dk_at dksX3_init_11 13 rfl rfl)
theorem dX3_init_271 : decode cX3_init 271 = .ok (.newarray .int, 2) := dk_188_10 (dk_at dksX3_init_11 15 rfl rfl)
theorem dX3_init_273 : decode cX3_init 273 = .ok (.putfield 107, 3) := dk_181 0 107 (dk_at dksX3_init_11 17 rfl rfl)
theorem dX3_init_276 : decode cX3_init 276 = .ok (.aload_n 0, 1) := dk_42 (dk_at dksX3_init_11 20 rfl rfl)
theorem dX3_init_277 : decode cX3_init 277 = .ok (.bipush 6, 2) := dk_16 6 (dk_at dksX3_init_11 21 rfl rfl)
theorem dX3_init_279 : decode cX3_init 279 = .ok (.newarray .int, 2) := dk_188_10 (dk_at dksX3_init_12 0 rfl rfl)
theorem dX3_init_281 : decode cX3_init 281 = .ok (.putfield 110, 3) := dk_181 0 110 (dk_at dksX3_init_12 2 rfl rfl)
theorem dX3_init_284 : decode cX3_init 284 = .ok (.aload_n 0, 1) := dk_42 (dk_at dksX3_init_12 5 rfl rfl)
theorem dX3_init_285 : decode cX3_init 285 = .ok (.bipush 6, 2) := dk_16 6 (dk_at dksX3_init_12 6 rfl rfl)
theorem dX3_init_287 : decode cX3_init 287 = .ok (.newarray .int, 2) := dk_188_10 (dk_at dksX3_init_12 8 rfl rfl)
theorem dX3_init_289 : decode cX3_init 289 = .ok (.putfield 113, 3) := dk_181 0 113 (dk_at dksX3_init_12 10 rfl rfl)
theorem dX3_init_292 : decode cX3_init 292 = .ok (.aload_n 0, 1) := dk_42 (dk_at dksX3_init_12 13 rfl rfl)
theorem dX3_init_293 : decode cX3_init 293 = .ok (.sipush 256, 3) := dk_17 1 0 (dk_at dksX3_init_12 14 rfl rfl)
theorem dX3_init_296 : decode cX3_init 296 = .ok (.newarray .int, 2) := dk_188_10 (dk_at dksX3_init_12 17 rfl rfl)
theorem dX3_init_298 : decode cX3_init 298 = .ok (.putfield 116, 3) := dk_181 0 116 (dk_at dksX3_init_12 19 rfl rfl)
theorem dX3_init_301 : decode cX3_init 301 = .ok (.aload_n 0, 1) := dk_42 (dk_at dksX3_init_12 22 rfl rfl)
theorem dX3_init_302 : decode cX3_init 302 = .ok (.iconst 3, 1) := dk_6 (dk_at dksX3_init_12 23 rfl rfl)
theorem dX3_init_303 : decode cX3_init 303 = .ok (.newarray .int, 2) := dk_188_10 (dk_at dksX3_init_13 0 rfl rfl)
theorem dX3_init_305 : decode cX3_init 305 = .ok (.putfield 119, 3) := dk_181 0 119 (dk_at dksX3_init_13 2 rfl rfl)
theorem dX3_init_308 : decode cX3_init 308 = .ok (.aload_n 0, 1) := dk_42 (dk_at dksX3_init_13 5 rfl rfl)
theorem dX3_init_309 : decode cX3_init 309 = .ok (.bipush 36, 2) := dk_16 36 (dk_at dksX3_init_13 6 rfl rfl)
theorem dX3_init_311 : decode cX3_init 311 = .ok (.newarray .int, 2) := dk_188_10 (dk_at dksX3_init_13 8 rfl rfl)
theorem dX3_init_313 : decode cX3_init 313 = .ok (.putfield 122, 3) := dk_181 0 122 (dk_at dksX3_init_13 10 rfl rfl)
theorem dX3_init_316 : decode cX3_init 316 = .ok (.aload_n 0, 1) := dk_42 (dk_at dksX3_init_13 13 rfl rfl)
theorem dX3_init_317 : decode cX3_init 317 = .ok (.bipush 8, 2) := dk_16 8 (dk_at dksX3_init_13 14 rfl rfl)
theorem dX3_init_319 : decode cX3_init 319 = .ok (.newarray .int, 2) := dk_188_10 (dk_at dksX3_init_13 16 rfl rfl)
theorem dX3_init_321 : decode cX3_init 321 = .ok (.putfield 125, 3) := dk_181 0 125 (dk_at dksX3_init_13 18 rfl rfl)
theorem dX3_init_324 : decode cX3_init 324 = .ok (.aload_n 0, 1) := dk_42 (dk_at dksX3_init_13 21 rfl rfl)
theorem dX3_init_325 : decode cX3_init 325 = .ok (.sipush 144, 3) := dk_17 0 144 (dk_at dksX3_init_14 0 rfl rfl)
theorem dX3_init_328 : decode cX3_init 328 = .ok (.newarray .int, 2) := dk_188_10 (dk_at dksX3_init_14 3 rfl rfl)
theorem dX3_init_330 : decode cX3_init 330 = .ok (.putfield 128, 3) := dk_181 0 128 (dk_at dksX3_init_14 5 rfl rfl)
theorem dX3_init_333 : decode cX3_init 333 = .ok (.aload_n 0, 1) := dk_42 (dk_at dksX3_init_14 8 rfl rfl)
theorem dX3_init_334 : decode cX3_init 334 = .ok (.bipush 72, 2) := dk_16 72 (dk_at dksX3_init_14 9 rfl rfl)
theorem dX3_init_336 : decode cX3_init 336 = .ok (.newarray .int, 2) := dk_188_10 (dk_at dksX3_init_14 11 rfl rfl)
theorem dX3_init_338 : decode cX3_init 338 = .ok (.putfield 131, 3) := dk_181 0 131 (dk_at dksX3_init_14 13 rfl rfl)
theorem dX3_init_341 : decode cX3_init 341 = .ok (.return_, 1) := dk_177 (dk_at dksX3_init_14 16 rfl rfl)
theorem dX3_thrown_0 : decode cX3_thrown 0 = .ok (.aload_n 0, 1) := by decide +kernel
theorem dX3_thrown_1 : decode cX3_thrown 1 = .ok (.getfield 134, 3) := by decide +kernel
theorem dX3_thrown_4 : decode cX3_thrown 4 = .ok (.ireturn, 1) := by decide +kernel
def dkwX3_feed_2 : List UInt8 := [182, 0, 140, 42, 180, 0, 137, 172]
abbrev dktX3_feed_2 : List UInt8 := dkwX3_feed_2 ++ []
def dkwX3_feed_1 : List UInt8 := [182, 0, 140, 42, 28, 182, 0, 140, 42, 29, 182, 0, 140, 42, 21, 4, 182, 0, 140, 42, 21, 5]
abbrev dktX3_feed_1 : List UInt8 := dkwX3_feed_1 ++ dktX3_feed_2
def dkwX3_feed_0 : List UInt8 := [42, 3, 181, 0, 134, 42, 180, 0, 137, 16, 20, 96, 17, 2, 188, 164, 0, 5, 2, 172, 42, 27]
abbrev dktX3_feed_0 : List UInt8 := dkwX3_feed_0 ++ dktX3_feed_1
theorem dksX3_feed_0 : cX3_feed.data.toList.drop 0 = dktX3_feed_0 := by decide +kernel
theorem dksX3_feed_1 : cX3_feed.data.toList.drop 22 = dktX3_feed_1 := dk_seg dksX3_feed_0 22 rfl rfl
theorem dksX3_feed_2 : cX3_feed.data.toList.drop 44 = dktX3_feed_2 := dk_seg dksX3_feed_1 22 rfl rfl
theorem dX3_feed_0 : decode cX3_feed 0 = .ok (.aload_n 0, 1) := dk_42 (dk_at dksX3_feed_0 0 rfl rfl)
theorem dX3_feed_1 : decode cX3_feed 1 = .ok (.iconst 0, 1) := dk_3 (dk_at dksX3_feed_0 1 rfl rfl)
theorem dX3_feed_2 : decode cX3_feed 2 = .ok (.putfield 134, 3) := dk_181 0 134 (dk_at dksX3_feed_0 2 rfl rfl)
theorem dX3_feed_5 : decode cX3_feed 5 = .ok (.aload_n 0, 1) := dk_42 (dk_at dksX3_feed_0 5 rfl rfl)
theorem dX3_feed_6 : decode cX3_feed 6 = .ok (.getfield 137, 3) := dk_180 0 137 (dk_at dksX3_feed_0 6 rfl rfl)
theorem dX3_feed_9 : decode cX3_feed 9 = .ok (.bipush 20, 2) := dk_16 20 (dk_at dksX3_feed_0 9 rfl rfl)
theorem dX3_feed_11 : decode cX3_feed 11 = .ok (.iadd, 1) := dk_96 (dk_at dksX3_feed_0 11 rfl rfl)
theorem dX3_feed_12 : decode cX3_feed 12 = .ok (.sipush 700, 3) := dk_17 2 188 (dk_at dksX3_feed_0 12 rfl rfl)
theorem dX3_feed_15 : decode cX3_feed 15 = .ok (.if_icmp .le 5, 3) := dk_164 0 5 (dk_at dksX3_feed_0 15 rfl rfl)
theorem dX3_feed_18 : decode cX3_feed 18 = .ok (.iconst (-1), 1) := dk_2 (dk_at dksX3_feed_0 18 rfl rfl)
theorem dX3_feed_19 : decode cX3_feed 19 = .ok (.ireturn, 1) := dk_172 (dk_at dksX3_feed_0 19 rfl rfl)
theorem dX3_feed_20 : decode cX3_feed 20 = .ok (.aload_n 0, 1) := dk_42 (dk_at dksX3_feed_0 20 rfl rfl)
theorem dX3_feed_21 : decode cX3_feed 21 = .ok (.iload_n 1, 1) := dk_27 (dk_at dksX3_feed_0 21 rfl rfl)
theorem dX3_feed_22 : decode cX3_feed 22 = .ok (.invokevirtual 140, 3) := dk_182 0 140 (dk_at dksX3_feed_1 0 rfl rfl)
theorem dX3_feed_25 : decode cX3_feed 25 = .ok (.aload_n 0, 1) := dk_42 (dk_at dksX3_feed_1 3 rfl rfl)
theorem dX3_feed_26 : decode cX3_feed 26 = .ok (.iload_n 2, 1) := dk_28 (dk_at dksX3_feed_1 4 rfl rfl)
theorem dX3_feed_27 : decode cX3_feed 27 = .ok (.invokevirtual 140, 3) := dk_182 0 140 (dk_at dksX3_feed_1 5 rfl rfl)
theorem dX3_feed_30 : decode cX3_feed 30 = .ok (.aload_n 0, 1) := dk_42 (dk_at dksX3_feed_1 8 rfl rfl)
theorem dX3_feed_31 : decode cX3_feed 31 = .ok (.iload_n 3, 1) := dk_29 (dk_at dksX3_feed_1 9 rfl rfl)
theorem dX3_feed_32 : decode cX3_feed 32 = .ok (.invokevirtual 140, 3) := dk_182 0 140 (dk_at dksX3_feed_1 10 rfl rfl)
theorem dX3_feed_35 : decode cX3_feed 35 = .ok (.aload_n 0, 1) := dk_42 (dk_at dksX3_feed_1 13 rfl rfl)
theorem dX3_feed_36 : decode cX3_feed 36 = .ok (.iload 4, 2) := dk_21 4 (dk_at dksX3_feed_1 14 rfl rfl)
theorem dX3_feed_38 : decode cX3_feed 38 = .ok (.invokevirtual 140, 3) := dk_182 0 140 (dk_at dksX3_feed_1 16 rfl rfl)
theorem dX3_feed_41 : decode cX3_feed 41 = .ok (.aload_n 0, 1) := dk_42 (dk_at dksX3_feed_1 19 rfl rfl)
theorem dX3_feed_42 : decode cX3_feed 42 = .ok (.iload 5, 2) := dk_21 5 (dk_at dksX3_feed_1 20 rfl rfl)
theorem dX3_feed_44 : decode cX3_feed 44 = .ok (.invokevirtual 140, 3) := dk_182 0 140 (dk_at dksX3_feed_2 0 rfl rfl)
theorem dX3_feed_47 : decode cX3_feed 47 = .ok (.aload_n 0, 1) := dk_42 (dk_at dksX3_feed_2 3 rfl rfl)
theorem dX3_feed_48 : decode cX3_feed 48 = .ok (.getfield 137, 3) := dk_180 0 137 (dk_at dksX3_feed_2 4 rfl rfl)
theorem dX3_feed_51 : decode cX3_feed 51 = .ok (.ireturn, 1) := dk_172 (dk_at dksX3_feed_2 7 rfl rfl)
def dkwX3_lays_1 : List UInt8 := [89, 180, 0, 137, 4, 96, 181, 0, 137, 132, 2, 248, 167, 255, 223, 177]
abbrev dktX3_lays_1 : List UInt8 := dkwX3_lays_1 ++ []
def dkwX3_lays_0 : List UInt8 := [16, 24, 61, 28, 155, 0, 35, 42, 180, 0, 31, 42, 180, 0, 137, 27, 28, 122, 17, 0, 255, 126, 79, 42]
abbrev dktX3_lays_0 : List UInt8 := dkwX3_lays_0 ++ dktX3_lays_1
theorem dksX3_lays_0 : cX3_lays.data.toList.drop 0 = dktX3_lays_0 := by decide +kernel
theorem dksX3_lays_1 : cX3_lays.data.toList.drop 24 = dktX3_lays_1 := dk_seg dksX3_lays_0 24 rfl rfl
theorem dX3_lays_0 : decode cX3_lays 0 = .ok (.bipush 24, 2) := dk_16 24 (dk_at dksX3_lays_0 0 rfl rfl)
theorem dX3_lays_2 : decode cX3_lays 2 = .ok (.istore_n 2, 1) := dk_61 (dk_at dksX3_lays_0 2 rfl rfl)
theorem dX3_lays_3 : decode cX3_lays 3 = .ok (.iload_n 2, 1) := dk_28 (dk_at dksX3_lays_0 3 rfl rfl)
theorem dX3_lays_4 : decode cX3_lays 4 = .ok (.ifCond .lt 35, 3) := dk_155 0 35 (dk_at dksX3_lays_0 4 rfl rfl)
theorem dX3_lays_7 : decode cX3_lays 7 = .ok (.aload_n 0, 1) := dk_42 (dk_at dksX3_lays_0 7 rfl rfl)
theorem dX3_lays_8 : decode cX3_lays 8 = .ok (.getfield 31, 3) := dk_180 0 31 (dk_at dksX3_lays_0 8 rfl rfl)
theorem dX3_lays_11 : decode cX3_lays 11 = .ok (.aload_n 0, 1) := dk_42 (dk_at dksX3_lays_0 11 rfl rfl)
theorem dX3_lays_12 : decode cX3_lays 12 = .ok (.getfield 137, 3) := dk_180 0 137 (dk_at dksX3_lays_0 12 rfl rfl)
theorem dX3_lays_15 : decode cX3_lays 15 = .ok (.iload_n 1, 1) := dk_27 (dk_at dksX3_lays_0 15 rfl rfl)
theorem dX3_lays_16 : decode cX3_lays 16 = .ok (.iload_n 2, 1) := dk_28 (dk_at dksX3_lays_0 16 rfl rfl)
theorem dX3_lays_17 : decode cX3_lays 17 = .ok (.ishr, 1) := dk_122 (dk_at dksX3_lays_0 17 rfl rfl)
theorem dX3_lays_18 : decode cX3_lays 18 = .ok (.sipush 255, 3) := dk_17 0 255 (dk_at dksX3_lays_0 18 rfl rfl)
theorem dX3_lays_21 : decode cX3_lays 21 = .ok (.iand, 1) := dk_126 (dk_at dksX3_lays_0 21 rfl rfl)
theorem dX3_lays_22 : decode cX3_lays 22 = .ok (.iastore, 1) := dk_79 (dk_at dksX3_lays_0 22 rfl rfl)
theorem dX3_lays_23 : decode cX3_lays 23 = .ok (.aload_n 0, 1) := dk_42 (dk_at dksX3_lays_0 23 rfl rfl)
theorem dX3_lays_24 : decode cX3_lays 24 = .ok (.dup, 1) := dk_89 (dk_at dksX3_lays_1 0 rfl rfl)
theorem dX3_lays_25 : decode cX3_lays 25 = .ok (.getfield 137, 3) := dk_180 0 137 (dk_at dksX3_lays_1 1 rfl rfl)
theorem dX3_lays_28 : decode cX3_lays 28 = .ok (.iconst 1, 1) := dk_4 (dk_at dksX3_lays_1 4 rfl rfl)
theorem dX3_lays_29 : decode cX3_lays 29 = .ok (.iadd, 1) := dk_96 (dk_at dksX3_lays_1 5 rfl rfl)
theorem dX3_lays_30 : decode cX3_lays 30 = .ok (.putfield 137, 3) := dk_181 0 137 (dk_at dksX3_lays_1 6 rfl rfl)
theorem dX3_lays_33 : decode cX3_lays 33 = .ok (.iinc 2 (-8), 3) := dk_132 2 248 (dk_at dksX3_lays_1 9 rfl rfl)
theorem dX3_lays_36 : decode cX3_lays 36 = .ok (.goto (-33), 3) := dk_167 255 223 (dk_at dksX3_lays_1 12 rfl rfl)
theorem dX3_lays_39 : decode cX3_lays 39 = .ok (.return_, 1) := dk_177 (dk_at dksX3_lays_1 15 rfl rfl)
def dkwX3_house_19 : List UInt8 := [132, 2, 1, 167, 255, 214, 3, 172]
abbrev dktX3_house_19 : List UInt8 := dkwX3_house_19 ++ []
def dkwX3_house_18 : List UInt8 := [180, 0, 68, 16, 24, 28, 104, 29, 96, 42, 180, 0, 22, 28, 46, 79, 132, 3, 1, 167, 255, 230]
abbrev dktX3_house_18 : List UInt8 := dkwX3_house_18 ++ dktX3_house_19
def dkwX3_house_17 : List UInt8 := [167, 255, 206, 3, 61, 28, 42, 180, 0, 254, 162, 0, 40, 3, 62, 29, 16, 24, 162, 0, 26, 42]
abbrev dktX3_house_17 : List UInt8 := dkwX3_house_17 ++ dktX3_house_18
def dkwX3_house_16 : List UInt8 := [42, 180, 0, 28, 16, 24, 28, 104, 29, 96, 46, 184, 1, 24, 79, 132, 3, 1, 167, 255, 222, 132, 2, 1]
abbrev dktX3_house_16 : List UInt8 := dkwX3_house_16 ++ dktX3_house_17
def dkwX3_house_15 : List UInt8 := [180, 0, 251, 162, 0, 48, 3, 62, 29, 16, 24, 162, 0, 34, 42, 180, 0, 65, 16, 24, 28, 104, 29, 96]
abbrev dktX3_house_15 : List UInt8 := dkwX3_house_15 ++ dktX3_house_16
def dkwX3_house_14 : List UInt8 := [3, 181, 1, 11, 42, 3, 181, 1, 14, 42, 3, 181, 1, 17, 42, 3, 181, 1, 21, 3, 61, 28, 42]
abbrev dktX3_house_14 : List UInt8 := dkwX3_house_14 ++ dktX3_house_15
def dkwX3_house_13 : List UInt8 := [42, 180, 0, 59, 28, 46, 79, 132, 2, 1, 167, 255, 221, 42, 3, 181, 1, 8, 42, 2, 181, 0, 71, 42]
abbrev dktX3_house_13 : List UInt8 := dkwX3_house_13 ++ dktX3_house_14
def dkwX3_house_12 : List UInt8 := [17, 0, 144, 162, 0, 34, 42, 180, 0, 28, 28, 42, 180, 0, 59, 28, 46, 154, 0, 7, 4, 167, 0, 9]
abbrev dktX3_house_12 : List UInt8 := dkwX3_house_12 ++ dktX3_house_13
def dkwX3_house_11 : List UInt8 := [42, 180, 0, 22, 182, 1, 4, 42, 42, 180, 0, 56, 42, 180, 0, 25, 182, 1, 4, 3, 61, 28]
abbrev dktX3_house_11 : List UInt8 := dkwX3_house_11 ++ dktX3_house_12
def dkwX3_house_10 : List UInt8 := [42, 180, 0, 16, 182, 1, 4, 42, 42, 180, 0, 50, 42, 180, 0, 19, 182, 1, 4, 42, 42, 180, 0, 53]
abbrev dktX3_house_10 : List UInt8 := dkwX3_house_10 ++ dktX3_house_11
def dkwX3_house_9 : List UInt8 := [42, 180, 0, 7, 182, 1, 4, 42, 42, 180, 0, 44, 42, 180, 0, 13, 182, 1, 4, 42, 42, 180, 0, 47]
abbrev dktX3_house_9 : List UInt8 := dkwX3_house_9 ++ dktX3_house_10
def dkwX3_house_8 : List UInt8 := [181, 0, 251, 42, 42, 180, 0, 232, 181, 0, 254, 42, 42, 180, 0, 212, 181, 1, 1, 42, 42, 180, 0, 41]
abbrev dktX3_house_8 : List UInt8 := dkwX3_house_8 ++ dktX3_house_9
def dkwX3_house_7 : List UInt8 := [3, 92, 46, 4, 96, 79, 42, 180, 0, 187, 172, 42, 42, 180, 0, 209, 181, 0, 248, 42, 42, 180, 0, 206]
abbrev dktX3_house_7 : List UInt8 := dkwX3_house_7 ++ dktX3_house_8
def dkwX3_house_6 : List UInt8 := [180, 0, 164, 153, 0, 10, 42, 182, 0, 245, 167, 255, 238, 42, 182, 0, 190, 154, 0, 18, 42, 180, 0, 38]
abbrev dktX3_house_6 : List UInt8 := dkwX3_house_6 ++ dktX3_house_7
def dkwX3_house_5 : List UInt8 := [180, 0, 59, 28, 3, 79, 132, 2, 1, 167, 255, 239, 42, 182, 0, 194, 42, 182, 0, 190, 153, 0, 17, 42]
abbrev dktX3_house_5 : List UInt8 := dkwX3_house_5 ++ dktX3_house_6
def dkwX3_house_4 : List UInt8 := [42, 180, 0, 56, 5, 5, 79, 42, 180, 0, 56, 6, 4, 79, 3, 61, 28, 17, 0, 144, 162, 0, 16, 42]
abbrev dktX3_house_4 : List UInt8 := dkwX3_house_4 ++ dktX3_house_5
def dkwX3_house_3 : List UInt8 := [42, 3, 181, 0, 212, 42, 3, 181, 0, 238, 42, 180, 0, 56, 3, 6, 79, 42, 180, 0, 56, 4, 4, 79]
abbrev dktX3_house_3 : List UInt8 := dkwX3_house_3 ++ dktX3_house_4
def dkwX3_house_2 : List UInt8 := [27, 181, 0, 144, 42, 3, 181, 0, 147, 42, 3, 181, 0, 209, 42, 3, 181, 0, 206, 42, 3, 181, 0, 232]
abbrev dktX3_house_2 : List UInt8 := dkwX3_house_2 ++ dktX3_house_3
def dkwX3_house_1 : List UInt8 := [182, 0, 241, 154, 0, 5, 3, 172, 42, 3, 181, 0, 137, 42, 2, 181, 0, 34, 42, 3, 181, 0, 187, 42]
abbrev dktX3_house_1 : List UInt8 := dkwX3_house_1 ++ dktX3_house_2
def dkwX3_house_0 : List UInt8 := [42, 3, 181, 0, 134, 42, 27, 155, 0, 15, 27, 42, 180, 0, 137, 163, 0, 7, 4, 167, 0, 4, 3, 4]
abbrev dktX3_house_0 : List UInt8 := dkwX3_house_0 ++ dktX3_house_1
theorem dksX3_house_0 : cX3_house.data.toList.drop 0 = dktX3_house_0 := by decide +kernel
theorem dksX3_house_1 : cX3_house.data.toList.drop 24 = dktX3_house_1 := dk_seg dksX3_house_0 24 rfl rfl
theorem dksX3_house_2 : cX3_house.data.toList.drop 48 = dktX3_house_2 := dk_seg dksX3_house_1 24 rfl rfl
theorem dksX3_house_3 : cX3_house.data.toList.drop 72 = dktX3_house_3 := dk_seg dksX3_house_2 24 rfl rfl
theorem dksX3_house_4 : cX3_house.data.toList.drop 96 = dktX3_house_4 := dk_seg dksX3_house_3 24 rfl rfl
theorem dksX3_house_5 : cX3_house.data.toList.drop 120 = dktX3_house_5 := dk_seg dksX3_house_4 24 rfl rfl
theorem dksX3_house_6 : cX3_house.data.toList.drop 144 = dktX3_house_6 := dk_seg dksX3_house_5 24 rfl rfl
theorem dksX3_house_7 : cX3_house.data.toList.drop 168 = dktX3_house_7 := dk_seg dksX3_house_6 24 rfl rfl
theorem dksX3_house_8 : cX3_house.data.toList.drop 192 = dktX3_house_8 := dk_seg dksX3_house_7 24 rfl rfl
theorem dksX3_house_9 : cX3_house.data.toList.drop 216 = dktX3_house_9 := dk_seg dksX3_house_8 24 rfl rfl
theorem dksX3_house_10 : cX3_house.data.toList.drop 240 = dktX3_house_10 := dk_seg dksX3_house_9 24 rfl rfl
theorem dksX3_house_11 : cX3_house.data.toList.drop 264 = dktX3_house_11 := dk_seg dksX3_house_10 24 rfl rfl
theorem dksX3_house_12 : cX3_house.data.toList.drop 286 = dktX3_house_12 := dk_seg dksX3_house_11 22 rfl rfl
theorem dksX3_house_13 : cX3_house.data.toList.drop 310 = dktX3_house_13 := dk_seg dksX3_house_12 24 rfl rfl
theorem dksX3_house_14 : cX3_house.data.toList.drop 334 = dktX3_house_14 := dk_seg dksX3_house_13 24 rfl rfl
theorem dksX3_house_15 : cX3_house.data.toList.drop 357 = dktX3_house_15 := dk_seg dksX3_house_14 23 rfl rfl
theorem dksX3_house_16 : cX3_house.data.toList.drop 381 = dktX3_house_16 := dk_seg dksX3_house_15 24 rfl rfl
theorem dksX3_house_17 : cX3_house.data.toList.drop 405 = dktX3_house_17 := dk_seg dksX3_house_16 24 rfl rfl
theorem dksX3_house_18 : cX3_house.data.toList.drop 427 = dktX3_house_18 := dk_seg dksX3_house_17 22 rfl rfl
theorem dksX3_house_19 : cX3_house.data.toList.drop 449 = dktX3_house_19 := dk_seg dksX3_house_18 22 rfl rfl
theorem dX3_house_0 : decode cX3_house 0 = .ok (.aload_n 0, 1) := dk_42 (dk_at dksX3_house_0 0 rfl rfl)
theorem dX3_house_1 : decode cX3_house 1 = .ok (.iconst 0, 1) := dk_3 (dk_at dksX3_house_0 1 rfl rfl)
theorem dX3_house_2 : decode cX3_house 2 = .ok (.putfield 134, 3) := dk_181 0 134 (dk_at dksX3_house_0 2 rfl rfl)
theorem dX3_house_5 : decode cX3_house 5 = .ok (.aload_n 0, 1) := dk_42 (dk_at dksX3_house_0 5 rfl rfl)
theorem dX3_house_6 : decode cX3_house 6 = .ok (.iload_n 1, 1) := dk_27 (dk_at dksX3_house_0 6 rfl rfl)
theorem dX3_house_7 : decode cX3_house 7 = .ok (.ifCond .lt 15, 3) := dk_155 0 15 (dk_at dksX3_house_0 7 rfl rfl)
theorem dX3_house_10 : decode cX3_house 10 = .ok (.iload_n 1, 1) := dk_27 (dk_at dksX3_house_0 10 rfl rfl)
theorem dX3_house_11 : decode cX3_house 11 = .ok (.aload_n 0, 1) := dk_42 (dk_at dksX3_house_0 11 rfl rfl)
theorem dX3_house_12 : decode cX3_house 12 = .ok (.getfield 137, 3) := dk_180 0 137 (dk_at dksX3_house_0 12 rfl rfl)
theorem dX3_house_15 : decode cX3_house 15 = .ok (.if_icmp .gt 7, 3) := dk_163 0 7 (dk_at dksX3_house_0 15 rfl rfl)
theorem dX3_house_18 : decode cX3_house 18 = .ok (.iconst 1, 1) := dk_4 (dk_at dksX3_house_0 18 rfl rfl)
theorem dX3_house_19 : decode cX3_house 19 = .ok (.goto 4, 3) := dk_167 0 4 (dk_at dksX3_house_0 19 rfl rfl)
theorem dX3_house_22 : decode cX3_house 22 = .ok (.iconst 0, 1) := dk_3 (dk_at dksX3_house_0 22 rfl rfl)
theorem dX3_house_23 : decode cX3_house 23 = .ok (.iconst 1, 1) := dk_4 (dk_at dksX3_house_0 23 rfl rfl)
theorem dX3_house_24 : decode cX3_house 24 = .ok (.invokevirtual 241, 3) := dk_182 0 241 (dk_at dksX3_house_1 0 rfl rfl)
theorem dX3_house_27 : decode cX3_house 27 = .ok (.ifCond .ne 5, 3) := dk_154 0 5 (dk_at dksX3_house_1 3 rfl rfl)
theorem dX3_house_30 : decode cX3_house 30 = .ok (.iconst 0, 1) := dk_3 (dk_at dksX3_house_1 6 rfl rfl)
theorem dX3_house_31 : decode cX3_house 31 = .ok (.ireturn, 1) := dk_172 (dk_at dksX3_house_1 7 rfl rfl)
theorem dX3_house_32 : decode cX3_house 32 = .ok (.aload_n 0, 1) := dk_42 (dk_at dksX3_house_1 8 rfl rfl)
theorem dX3_house_33 : decode cX3_house 33 = .ok (.iconst 0, 1) := dk_3 (dk_at dksX3_house_1 9 rfl rfl)
theorem dX3_house_34 : decode cX3_house 34 = .ok (.putfield 137, 3) := dk_181 0 137 (dk_at dksX3_house_1 10 rfl rfl)
theorem dX3_house_37 : decode cX3_house 37 = .ok (.aload_n 0, 1) := dk_42 (dk_at dksX3_house_1 13 rfl rfl)
theorem dX3_house_38 : decode cX3_house 38 = .ok (.iconst (-1), 1) := dk_2 (dk_at dksX3_house_1 14 rfl rfl)
theorem dX3_house_39 : decode cX3_house 39 = .ok (.putfield 34, 3) := dk_181 0 34 (dk_at dksX3_house_1 15 rfl rfl)
theorem dX3_house_42 : decode cX3_house 42 = .ok (.aload_n 0, 1) := dk_42 (dk_at dksX3_house_1 18 rfl rfl)
theorem dX3_house_43 : decode cX3_house 43 = .ok (.iconst 0, 1) := dk_3 (dk_at dksX3_house_1 19 rfl rfl)
theorem dX3_house_44 : decode cX3_house 44 = .ok (.putfield 187, 3) := dk_181 0 187 (dk_at dksX3_house_1 20 rfl rfl)
theorem dX3_house_47 : decode cX3_house 47 = .ok (.aload_n 0, 1) := dk_42 (dk_at dksX3_house_1 23 rfl rfl)
theorem dX3_house_48 : decode cX3_house 48 = .ok (.iload_n 1, 1) := dk_27 (dk_at dksX3_house_2 0 rfl rfl)
theorem dX3_house_49 : decode cX3_house 49 = .ok (.putfield 144, 3) := dk_181 0 144 (dk_at dksX3_house_2 1 rfl rfl)
theorem dX3_house_52 : decode cX3_house 52 = .ok (.aload_n 0, 1) := dk_42 (dk_at dksX3_house_2 4 rfl rfl)
theorem dX3_house_53 : decode cX3_house 53 = .ok (.iconst 0, 1) := dk_3 (dk_at dksX3_house_2 5 rfl rfl)
theorem dX3_house_54 : decode cX3_house 54 = .ok (.putfield 147, 3) := dk_181 0 147 (dk_at dksX3_house_2 6 rfl rfl)
theorem dX3_house_57 : decode cX3_house 57 = .ok (.aload_n 0, 1) := dk_42 (dk_at dksX3_house_2 9 rfl rfl)
theorem dX3_house_58 : decode cX3_house 58 = .ok (.iconst 0, 1) := dk_3 (dk_at dksX3_house_2 10 rfl rfl)
theorem dX3_house_59 : decode cX3_house 59 = .ok (.putfield 209, 3) := dk_181 0 209 (dk_at dksX3_house_2 11 rfl rfl)
theorem dX3_house_62 : decode cX3_house 62 = .ok (.aload_n 0, 1) := dk_42 (dk_at dksX3_house_2 14 rfl rfl)
theorem dX3_house_63 : decode cX3_house 63 = .ok (.iconst 0, 1) := dk_3 (dk_at dksX3_house_2 15 rfl rfl)
theorem dX3_house_64 : decode cX3_house 64 = .ok (.putfield 206, 3) := dk_181 0 206 (dk_at dksX3_house_2 16 rfl rfl)
theorem dX3_house_67 : decode cX3_house 67 = .ok (.aload_n 0, 1) := dk_42 (dk_at dksX3_house_2 19 rfl rfl)
theorem dX3_house_68 : decode cX3_house 68 = .ok (.iconst 0, 1) := dk_3 (dk_at dksX3_house_2 20 rfl rfl)
theorem dX3_house_69 : decode cX3_house 69 = .ok (.putfield 232, 3) := dk_181 0 232 (dk_at dksX3_house_2 21 rfl rfl)
theorem dX3_house_72 : decode cX3_house 72 = .ok (.aload_n 0, 1) := dk_42 (dk_at dksX3_house_3 0 rfl rfl)
theorem dX3_house_73 : decode cX3_house 73 = .ok (.iconst 0, 1) := dk_3 (dk_at dksX3_house_3 1 rfl rfl)
theorem dX3_house_74 : decode cX3_house 74 = .ok (.putfield 212, 3) := dk_181 0 212 (dk_at dksX3_house_3 2 rfl rfl)
theorem dX3_house_77 : decode cX3_house 77 = .ok (.aload_n 0, 1) := dk_42 (dk_at dksX3_house_3 5 rfl rfl)
theorem dX3_house_78 : decode cX3_house 78 = .ok (.iconst 0, 1) := dk_3 (dk_at dksX3_house_3 6 rfl rfl)
theorem dX3_house_79 : decode cX3_house 79 = .ok (.putfield 238, 3) := dk_181 0 238 (dk_at dksX3_house_3 7 rfl rfl)
theorem dX3_house_82 : decode cX3_house 82 = .ok (.aload_n 0, 1) := dk_42 (dk_at dksX3_house_3 10 rfl rfl)
theorem dX3_house_83 : decode cX3_house 83 = .ok (.getfield 56, 3) := dk_180 0 56 (dk_at dksX3_house_3 11 rfl rfl)
theorem dX3_house_86 : decode cX3_house 86 = .ok (.iconst 0, 1) := dk_3 (dk_at dksX3_house_3 14 rfl rfl)
theorem dX3_house_87 : decode cX3_house 87 = .ok (.iconst 3, 1) := dk_6 (dk_at dksX3_house_3 15 rfl rfl)
theorem dX3_house_88 : decode cX3_house 88 = .ok (.iastore, 1) := dk_79 (dk_at dksX3_house_3 16 rfl rfl)
theorem dX3_house_89 : decode cX3_house 89 = .ok (.aload_n 0, 1) := dk_42 (dk_at dksX3_house_3 17 rfl rfl)
theorem dX3_house_90 : decode cX3_house 90 = .ok (.getfield 56, 3) := dk_180 0 56 (dk_at dksX3_house_3 18 rfl rfl)
theorem dX3_house_93 : decode cX3_house 93 = .ok (.iconst 1, 1) := dk_4 (dk_at dksX3_house_3 21 rfl rfl)
theorem dX3_house_94 : decode cX3_house 94 = .ok (.iconst 1, 1) := dk_4 (dk_at dksX3_house_3 22 rfl rfl)
theorem dX3_house_95 : decode cX3_house 95 = .ok (.iastore, 1) := dk_79 (dk_at dksX3_house_3 23 rfl rfl)
theorem dX3_house_96 : decode cX3_house 96 = .ok (.aload_n 0, 1) := dk_42 (dk_at dksX3_house_4 0 rfl rfl)
theorem dX3_house_97 : decode cX3_house 97 = .ok (.getfield 56, 3) := dk_180 0 56 (dk_at dksX3_house_4 1 rfl rfl)
theorem dX3_house_100 : decode cX3_house 100 = .ok (.iconst 2, 1) := dk_5 (dk_at dksX3_house_4 4 rfl rfl)
theorem dX3_house_101 : decode cX3_house 101 = .ok (.iconst 2, 1) := dk_5 (dk_at dksX3_house_4 5 rfl rfl)
theorem dX3_house_102 : decode cX3_house 102 = .ok (.iastore, 1) := dk_79 (dk_at dksX3_house_4 6 rfl rfl)
theorem dX3_house_103 : decode cX3_house 103 = .ok (.aload_n 0, 1) := dk_42 (dk_at dksX3_house_4 7 rfl rfl)
theorem dX3_house_104 : decode cX3_house 104 = .ok (.getfield 56, 3) := dk_180 0 56 (dk_at dksX3_house_4 8 rfl rfl)
theorem dX3_house_107 : decode cX3_house 107 = .ok (.iconst 3, 1) := dk_6 (dk_at dksX3_house_4 11 rfl rfl)
theorem dX3_house_108 : decode cX3_house 108 = .ok (.iconst 1, 1) := dk_4 (dk_at dksX3_house_4 12 rfl rfl)
theorem dX3_house_109 : decode cX3_house 109 = .ok (.iastore, 1) := dk_79 (dk_at dksX3_house_4 13 rfl rfl)
theorem dX3_house_110 : decode cX3_house 110 = .ok (.iconst 0, 1) := dk_3 (dk_at dksX3_house_4 14 rfl rfl)
theorem dX3_house_111 : decode cX3_house 111 = .ok (.istore_n 2, 1) := dk_61 (dk_at dksX3_house_4 15 rfl rfl)
theorem dX3_house_112 : decode cX3_house 112 = .ok (.iload_n 2, 1) := dk_28 (dk_at dksX3_house_4 16 rfl rfl)
theorem dX3_house_113 : decode cX3_house 113 = .ok (.sipush 144, 3) := dk_17 0 144 (dk_at dksX3_house_4 17 rfl rfl)
theorem dX3_house_116 : decode cX3_house 116 = .ok (.if_icmp .ge 16, 3) := dk_162 0 16 (dk_at dksX3_house_4 20 rfl rfl)
theorem dX3_house_119 : decode cX3_house 119 = .ok (.aload_n 0, 1) := dk_42 (dk_at dksX3_house_4 23 rfl rfl)
theorem dX3_house_120 : decode cX3_house 120 = .ok (.getfield 59, 3) := dk_180 0 59 (dk_at dksX3_house_5 0 rfl rfl)
theorem dX3_house_123 : decode cX3_house 123 = .ok (.iload_n 2, 1) := dk_28 (dk_at dksX3_house_5 3 rfl rfl)
theorem dX3_house_124 : decode cX3_house 124 = .ok (.iconst 0, 1) := dk_3 (dk_at dksX3_house_5 4 rfl rfl)
theorem dX3_house_125 : decode cX3_house 125 = .ok (.iastore, 1) := dk_79 (dk_at dksX3_house_5 5 rfl rfl)
theorem dX3_house_126 : decode cX3_house 126 = .ok (.iinc 2 1, 3) := dk_132 2 1 (dk_at dksX3_house_5 6 rfl rfl)
theorem dX3_house_129 : decode cX3_house 129 = .ok (.goto (-17), 3) := dk_167 255 239 (dk_at dksX3_house_5 9 rfl rfl)
theorem dX3_house_132 : decode cX3_house 132 = .ok (.aload_n 0, 1) := dk_42 (dk_at dksX3_house_5 12 rfl rfl)
theorem dX3_house_133 : decode cX3_house 133 = .ok (.invokevirtual 194, 3) := dk_182 0 194 (dk_at dksX3_house_5 13 rfl rfl)
theorem dX3_house_136 : decode cX3_house 136 = .ok (.aload_n 0, 1) := dk_42 (dk_at dksX3_house_5 16 rfl rfl)
theorem dX3_house_137 : decode cX3_house 137 = .ok (.invokevirtual 190, 3) := dk_182 0 190 (dk_at dksX3_house_5 17 rfl rfl)
theorem dX3_house_140 : decode cX3_house 140 = .ok (.ifCond .eq 17, 3) := dk_153 0 17 (dk_at dksX3_house_5 20 rfl rfl)
theorem dX3_house_143 : decode cX3_house 143 = .ok (.aload_n 0, 1) := dk_42 (dk_at dksX3_house_5 23 rfl rfl)
theorem dX3_house_144 : decode cX3_house 144 = .ok (.getfield 164, 3) := dk_180 0 164 (dk_at dksX3_house_6 0 rfl rfl)
theorem dX3_house_147 : decode cX3_house 147 = .ok (.ifCond .eq 10, 3) := dk_153 0 10 (dk_at dksX3_house_6 3 rfl rfl)
theorem dX3_house_150 : decode cX3_house 150 = .ok (.aload_n 0, 1) := dk_42 (dk_at dksX3_house_6 6 rfl rfl)
theorem dX3_house_151 : decode cX3_house 151 = .ok (.invokevirtual 245, 3) := dk_182 0 245 (dk_at dksX3_house_6 7 rfl rfl)
theorem dX3_house_154 : decode cX3_house 154 = .ok (.goto (-18), 3) := dk_167 255 238 (dk_at dksX3_house_6 10 rfl rfl)
theorem dX3_house_157 : decode cX3_house 157 = .ok (.aload_n 0, 1) := dk_42 (dk_at dksX3_house_6 13 rfl rfl)
theorem dX3_house_158 : decode cX3_house 158 = .ok (.invokevirtual 190, 3) := dk_182 0 190 (dk_at dksX3_house_6 14 rfl rfl)
theorem dX3_house_161 : decode cX3_house 161 = .ok (.ifCond .ne 18, 3) := dk_154 0 18 (dk_at dksX3_house_6 17 rfl rfl)
theorem dX3_house_164 : decode cX3_house 164 = .ok (.aload_n 0, 1) := dk_42 (dk_at dksX3_house_6 20 rfl rfl)
theorem dX3_house_165 : decode cX3_house 165 = .ok (.getfield 38, 3) := dk_180 0 38 (dk_at dksX3_house_6 21 rfl rfl)
theorem dX3_house_168 : decode cX3_house 168 = .ok (.iconst 0, 1) := dk_3 (dk_at dksX3_house_7 0 rfl rfl)
theorem dX3_house_169 : decode cX3_house 169 = .ok (.dup2, 1) := dk_92 (dk_at dksX3_house_7 1 rfl rfl)
theorem dX3_house_170 : decode cX3_house 170 = .ok (.iaload, 1) := dk_46 (dk_at dksX3_house_7 2 rfl rfl)
theorem dX3_house_171 : decode cX3_house 171 = .ok (.iconst 1, 1) := dk_4 (dk_at dksX3_house_7 3 rfl rfl)
theorem dX3_house_172 : decode cX3_house 172 = .ok (.iadd, 1) := dk_96 (dk_at dksX3_house_7 4 rfl rfl)
theorem dX3_house_173 : decode cX3_house 173 = .ok (.iastore, 1) := dk_79 (dk_at dksX3_house_7 5 rfl rfl)
theorem dX3_house_174 : decode cX3_house 174 = .ok (.aload_n 0, 1) := dk_42 (dk_at dksX3_house_7 6 rfl rfl)
theorem dX3_house_175 : decode cX3_house 175 = .ok (.getfield 187, 3) := dk_180 0 187 (dk_at dksX3_house_7 7 rfl rfl)
theorem dX3_house_178 : decode cX3_house 178 = .ok (.ireturn, 1) := dk_172 (dk_at dksX3_house_7 10 rfl rfl)
theorem dX3_house_179 : decode cX3_house 179 = .ok (.aload_n 0, 1) := dk_42 (dk_at dksX3_house_7 11 rfl rfl)
theorem dX3_house_180 : decode cX3_house 180 = .ok (.aload_n 0, 1) := dk_42 (dk_at dksX3_house_7 12 rfl rfl)
theorem dX3_house_181 : decode cX3_house 181 = .ok (.getfield 209, 3) := dk_180 0 209 (dk_at dksX3_house_7 13 rfl rfl)
theorem dX3_house_184 : decode cX3_house 184 = .ok (.putfield 248, 3) := dk_181 0 248 (dk_at dksX3_house_7 16 rfl rfl)
theorem dX3_house_187 : decode cX3_house 187 = .ok (.aload_n 0, 1) := dk_42 (dk_at dksX3_house_7 19 rfl rfl)
theorem dX3_house_188 : decode cX3_house 188 = .ok (.aload_n 0, 1) := dk_42 (dk_at dksX3_house_7 20 rfl rfl)
theorem dX3_house_189 : decode cX3_house 189 = .ok (.getfield 206, 3) := dk_180 0 206 (dk_at dksX3_house_7 21 rfl rfl)
theorem dX3_house_192 : decode cX3_house 192 = .ok (.putfield 251, 3) := dk_181 0 251 (dk_at dksX3_house_8 0 rfl rfl)
theorem dX3_house_195 : decode cX3_house 195 = .ok (.aload_n 0, 1) := dk_42 (dk_at dksX3_house_8 3 rfl rfl)
theorem dX3_house_196 : decode cX3_house 196 = .ok (.aload_n 0, 1) := dk_42 (dk_at dksX3_house_8 4 rfl rfl)
theorem dX3_house_197 : decode cX3_house 197 = .ok (.getfield 232, 3) := dk_180 0 232 (dk_at dksX3_house_8 5 rfl rfl)
theorem dX3_house_200 : decode cX3_house 200 = .ok (.putfield 254, 3) := dk_181 0 254 (dk_at dksX3_house_8 8 rfl rfl)
theorem dX3_house_203 : decode cX3_house 203 = .ok (.aload_n 0, 1) := dk_42 (dk_at dksX3_house_8 11 rfl rfl)
theorem dX3_house_204 : decode cX3_house 204 = .ok (.aload_n 0, 1) := dk_42 (dk_at dksX3_house_8 12 rfl rfl)
theorem dX3_house_205 : decode cX3_house 205 = .ok (.getfield 212, 3) := dk_180 0 212 (dk_at dksX3_house_8 13 rfl rfl)
theorem dX3_house_208 : decode cX3_house 208 = .ok (.putfield 257, 3) := dk_181 1 1 (dk_at dksX3_house_8 16 rfl rfl)
theorem dX3_house_211 : decode cX3_house 211 = .ok (.aload_n 0, 1) := dk_42 (dk_at dksX3_house_8 19 rfl rfl)
theorem dX3_house_212 : decode cX3_house 212 = .ok (.aload_n 0, 1) := dk_42 (dk_at dksX3_house_8 20 rfl rfl)
theorem dX3_house_213 : decode cX3_house 213 = .ok (.getfield 41, 3) := dk_180 0 41 (dk_at dksX3_house_8 21 rfl rfl)
theorem dX3_house_216 : decode cX3_house 216 = .ok (.aload_n 0, 1) := dk_42 (dk_at dksX3_house_9 0 rfl rfl)
theorem dX3_house_217 : decode cX3_house 217 = .ok (.getfield 7, 3) := dk_180 0 7 (dk_at dksX3_house_9 1 rfl rfl)
theorem dX3_house_220 : decode cX3_house 220 = .ok (.invokevirtual 260, 3) := dk_182 1 4 (dk_at dksX3_house_9 4 rfl rfl)
theorem dX3_house_223 : decode cX3_house 223 = .ok (.aload_n 0, 1) := dk_42 (dk_at dksX3_house_9 7 rfl rfl)
theorem dX3_house_224 : decode cX3_house 224 = .ok (.aload_n 0, 1) := dk_42 (dk_at dksX3_house_9 8 rfl rfl)
theorem dX3_house_225 : decode cX3_house 225 = .ok (.getfield 44, 3) := dk_180 0 44 (dk_at dksX3_house_9 9 rfl rfl)
theorem dX3_house_228 : decode cX3_house 228 = .ok (.aload_n 0, 1) := dk_42 (dk_at dksX3_house_9 12 rfl rfl)
theorem dX3_house_229 : decode cX3_house 229 = .ok (.getfield 13, 3) := dk_180 0 13 (dk_at dksX3_house_9 13 rfl rfl)
theorem dX3_house_232 : decode cX3_house 232 = .ok (.invokevirtual 260, 3) := dk_182 1 4 (dk_at dksX3_house_9 16 rfl rfl)
theorem dX3_house_235 : decode cX3_house 235 = .ok (.aload_n 0, 1) := dk_42 (dk_at dksX3_house_9 19 rfl rfl)
theorem dX3_house_236 : decode cX3_house 236 = .ok (.aload_n 0, 1) := dk_42 (dk_at dksX3_house_9 20 rfl rfl)
theorem dX3_house_237 : decode cX3_house 237 = .ok (.getfield 47, 3) := dk_180 0 47 (dk_at dksX3_house_9 21 rfl rfl)
theorem dX3_house_240 : decode cX3_house 240 = .ok (.aload_n 0, 1) := dk_42 (dk_at dksX3_house_10 0 rfl rfl)
theorem dX3_house_241 : decode cX3_house 241 = .ok (.getfield 16, 3) := dk_180 0 16 (dk_at dksX3_house_10 1 rfl rfl)
theorem dX3_house_244 : decode cX3_house 244 = .ok (.invokevirtual 260, 3) := dk_182 1 4 (dk_at dksX3_house_10 4 rfl rfl)
theorem dX3_house_247 : decode cX3_house 247 = .ok (.aload_n 0, 1) := dk_42 (dk_at dksX3_house_10 7 rfl rfl)
theorem dX3_house_248 : decode cX3_house 248 = .ok (.aload_n 0, 1) := dk_42 (dk_at dksX3_house_10 8 rfl rfl)
theorem dX3_house_249 : decode cX3_house 249 = .ok (.getfield 50, 3) := dk_180 0 50 (dk_at dksX3_house_10 9 rfl rfl)
theorem dX3_house_252 : decode cX3_house 252 = .ok (.aload_n 0, 1) := dk_42 (dk_at dksX3_house_10 12 rfl rfl)
theorem dX3_house_253 : decode cX3_house 253 = .ok (.getfield 19, 3) := dk_180 0 19 (dk_at dksX3_house_10 13 rfl rfl)
theorem dX3_house_256 : decode cX3_house 256 = .ok (.invokevirtual 260, 3) := dk_182 1 4 (dk_at dksX3_house_10 16 rfl rfl)
theorem dX3_house_259 : decode cX3_house 259 = .ok (.aload_n 0, 1) := dk_42 (dk_at dksX3_house_10 19 rfl rfl)
theorem dX3_house_260 : decode cX3_house 260 = .ok (.aload_n 0, 1) := dk_42 (dk_at dksX3_house_10 20 rfl rfl)
theorem dX3_house_261 : decode cX3_house 261 = .ok (.getfield 53, 3) := dk_180 0 53 (dk_at dksX3_house_10 21 rfl rfl)
theorem dX3_house_264 : decode cX3_house 264 = .ok (.aload_n 0, 1) := dk_42 (dk_at dksX3_house_11 0 rfl rfl)
theorem dX3_house_265 : decode cX3_house 265 = .ok (.getfield 22, 3) := dk_180 0 22 (dk_at dksX3_house_11 1 rfl rfl)
theorem dX3_house_268 : decode cX3_house 268 = .ok (.invokevirtual 260, 3) := dk_182 1 4 (dk_at dksX3_house_11 4 rfl rfl)
theorem dX3_house_271 : decode cX3_house 271 = .ok (.aload_n 0, 1) := dk_42 (dk_at dksX3_house_11 7 rfl rfl)
theorem dX3_house_272 : decode cX3_house 272 = .ok (.aload_n 0, 1) := dk_42 (dk_at dksX3_house_11 8 rfl rfl)
theorem dX3_house_273 : decode cX3_house 273 = .ok (.getfield 56, 3) := dk_180 0 56 (dk_at dksX3_house_11 9 rfl rfl)
theorem dX3_house_276 : decode cX3_house 276 = .ok (.aload_n 0, 1) := dk_42 (dk_at dksX3_house_11 12 rfl rfl)
theorem dX3_house_277 : decode cX3_house 277 = .ok (.getfield 25, 3) := dk_180 0 25 (dk_at dksX3_house_11 13 rfl rfl)
theorem dX3_house_280 : decode cX3_house 280 = .ok (.invokevirtual 260, 3) := dk_182 1 4 (dk_at dksX3_house_11 16 rfl rfl)
theorem dX3_house_283 : decode cX3_house 283 = .ok (.iconst 0, 1) := dk_3 (dk_at dksX3_house_11 19 rfl rfl)
theorem dX3_house_284 : decode cX3_house 284 = .ok (.istore_n 2, 1) := dk_61 (dk_at dksX3_house_11 20 rfl rfl)
theorem dX3_house_285 : decode cX3_house 285 = .ok (.iload_n 2, 1) := dk_28 (dk_at dksX3_house_11 21 rfl rfl)
theorem dX3_house_286 : decode cX3_house 286 = .ok (.sipush 144, 3) := dk_17 0 144 (dk_at dksX3_house_12 0 rfl rfl)
theorem dX3_house_289 : decode cX3_house 289 = .ok (.if_icmp .ge 34, 3) := dk_162 0 34 (dk_at dksX3_house_12 3 rfl rfl)
theorem dX3_house_292 : decode cX3_house 292 = .ok (.aload_n 0, 1) := dk_42 (dk_at dksX3_house_12 6 rfl rfl)
theorem dX3_house_293 : decode cX3_house 293 = .ok (.getfield 28, 3) := dk_180 0 28 (dk_at dksX3_house_12 7 rfl rfl)
theorem dX3_house_296 : decode cX3_house 296 = .ok (.iload_n 2, 1) := dk_28 (dk_at dksX3_house_12 10 rfl rfl)
theorem dX3_house_297 : decode cX3_house 297 = .ok (.aload_n 0, 1) := dk_42 (dk_at dksX3_house_12 11 rfl rfl)
theorem dX3_house_298 : decode cX3_house 298 = .ok (.getfield 59, 3) := dk_180 0 59 (dk_at dksX3_house_12 12 rfl rfl)
theorem dX3_house_301 : decode cX3_house 301 = .ok (.iload_n 2, 1) := dk_28 (dk_at dksX3_house_12 15 rfl rfl)
theorem dX3_house_302 : decode cX3_house 302 = .ok (.iaload, 1) := dk_46 (dk_at dksX3_house_12 16 rfl rfl)
theorem dX3_house_303 : decode cX3_house 303 = .ok (.ifCond .ne 7, 3) := dk_154 0 7 (dk_at dksX3_house_12 17 rfl rfl)
theorem dX3_house_306 : decode cX3_house 306 = .ok (.iconst 1, 1) := dk_4 (dk_at dksX3_house_12 20 rfl rfl)
theorem dX3_house_307 : decode cX3_house 307 = .ok (.goto 9, 3) := dk_167 0 9 (dk_at dksX3_house_12 21 rfl rfl)
theorem dX3_house_310 : decode cX3_house 310 = .ok (.aload_n 0, 1) := dk_42 (dk_at dksX3_house_13 0 rfl rfl)
theorem dX3_house_311 : decode cX3_house 311 = .ok (.getfield 59, 3) := dk_180 0 59 (dk_at dksX3_house_13 1 rfl rfl)
theorem dX3_house_314 : decode cX3_house 314 = .ok (.iload_n 2, 1) := dk_28 (dk_at dksX3_house_13 4 rfl rfl)
theorem dX3_house_315 : decode cX3_house 315 = .ok (.iaload, 1) := dk_46 (dk_at dksX3_house_13 5 rfl rfl)
theorem dX3_house_316 : decode cX3_house 316 = .ok (.iastore, 1) := dk_79 (dk_at dksX3_house_13 6 rfl rfl)
theorem dX3_house_317 : decode cX3_house 317 = .ok (.iinc 2 1, 3) := dk_132 2 1 (dk_at dksX3_house_13 7 rfl rfl)
theorem dX3_house_320 : decode cX3_house 320 = .ok (.goto (-35), 3) := dk_167 255 221 (dk_at dksX3_house_13 10 rfl rfl)
theorem dX3_house_323 : decode cX3_house 323 = .ok (.aload_n 0, 1) := dk_42 (dk_at dksX3_house_13 13 rfl rfl)
theorem dX3_house_324 : decode cX3_house 324 = .ok (.iconst 0, 1) := dk_3 (dk_at dksX3_house_13 14 rfl rfl)
theorem dX3_house_325 : decode cX3_house 325 = .ok (.putfield 264, 3) := dk_181 1 8 (dk_at dksX3_house_13 15 rfl rfl)
theorem dX3_house_328 : decode cX3_house 328 = .ok (.aload_n 0, 1) := dk_42 (dk_at dksX3_house_13 18 rfl rfl)
theorem dX3_house_329 : decode cX3_house 329 = .ok (.iconst (-1), 1) := dk_2 (dk_at dksX3_house_13 19 rfl rfl)
theorem dX3_house_330 : decode cX3_house 330 = .ok (.putfield 71, 3) := dk_181 0 71 (dk_at dksX3_house_13 20 rfl rfl)
theorem dX3_house_333 : decode cX3_house 333 = .ok (.aload_n 0, 1) := dk_42 (dk_at dksX3_house_13 23 rfl rfl)
theorem dX3_house_334 : decode cX3_house 334 = .ok (.iconst 0, 1) := dk_3 (dk_at dksX3_house_14 0 rfl rfl)
theorem dX3_house_335 : decode cX3_house 335 = .ok (.putfield 267, 3) := dk_181 1 11 (dk_at dksX3_house_14 1 rfl rfl)
theorem dX3_house_338 : decode cX3_house 338 = .ok (.aload_n 0, 1) := dk_42 (dk_at dksX3_house_14 4 rfl rfl)
theorem dX3_house_339 : decode cX3_house 339 = .ok (.iconst 0, 1) := dk_3 (dk_at dksX3_house_14 5 rfl rfl)
theorem dX3_house_340 : decode cX3_house 340 = .ok (.putfield 270, 3) := dk_181 1 14 (dk_at dksX3_house_14 6 rfl rfl)
theorem dX3_house_343 : decode cX3_house 343 = .ok (.aload_n 0, 1) := dk_42 (dk_at dksX3_house_14 9 rfl rfl)
theorem dX3_house_344 : decode cX3_house 344 = .ok (.iconst 0, 1) := dk_3 (dk_at dksX3_house_14 10 rfl rfl)
theorem dX3_house_345 : decode cX3_house 345 = .ok (.putfield 273, 3) := dk_181 1 17 (dk_at dksX3_house_14 11 rfl rfl)
theorem dX3_house_348 : decode cX3_house 348 = .ok (.aload_n 0, 1) := dk_42 (dk_at dksX3_house_14 14 rfl rfl)
theorem dX3_house_349 : decode cX3_house 349 = .ok (.iconst 0, 1) := dk_3 (dk_at dksX3_house_14 15 rfl rfl)
theorem dX3_house_350 : decode cX3_house 350 = .ok (.putfield 277, 3) := dk_181 1 21 (dk_at dksX3_house_14 16 rfl rfl)
theorem dX3_house_353 : decode cX3_house 353 = .ok (.iconst 0, 1) := dk_3 (dk_at dksX3_house_14 19 rfl rfl)
theorem dX3_house_354 : decode cX3_house 354 = .ok (.istore_n 2, 1) := dk_61 (dk_at dksX3_house_14 20 rfl rfl)
theorem dX3_house_355 : decode cX3_house 355 = .ok (.iload_n 2, 1) := dk_28 (dk_at dksX3_house_14 21 rfl rfl)
theorem dX3_house_356 : decode cX3_house 356 = .ok (.aload_n 0, 1) := dk_42 (dk_at dksX3_house_14 22 rfl rfl)
theorem dX3_house_357 : decode cX3_house 357 = .ok (.getfield 251, 3) := dk_180 0 251 (dk_at dksX3_house_15 0 rfl rfl)
theorem dX3_house_360 : decode cX3_house 360 = .ok (.if_icmp .ge 48, 3) := dk_162 0 48 (dk_at dksX3_house_15 3 rfl rfl)
theorem dX3_house_363 : decode cX3_house 363 = .ok (.iconst 0, 1) := dk_3 (dk_at dksX3_house_15 6 rfl rfl)
theorem dX3_house_364 : decode cX3_house 364 = .ok (.istore_n 3, 1) := dk_62 (dk_at dksX3_house_15 7 rfl rfl)
theorem dX3_house_365 : decode cX3_house 365 = .ok (.iload_n 3, 1) := dk_29 (dk_at dksX3_house_15 8 rfl rfl)
theorem dX3_house_366 : decode cX3_house 366 = .ok (.bipush 24, 2) := dk_16 24 (dk_at dksX3_house_15 9 rfl rfl)
theorem dX3_house_368 : decode cX3_house 368 = .ok (.if_icmp .ge 34, 3) := dk_162 0 34 (dk_at dksX3_house_15 11 rfl rfl)
theorem dX3_house_371 : decode cX3_house 371 = .ok (.aload_n 0, 1) := dk_42 (dk_at dksX3_house_15 14 rfl rfl)
theorem dX3_house_372 : decode cX3_house 372 = .ok (.getfield 65, 3) := dk_180 0 65 (dk_at dksX3_house_15 15 rfl rfl)
theorem dX3_house_375 : decode cX3_house 375 = .ok (.bipush 24, 2) := dk_16 24 (dk_at dksX3_house_15 18 rfl rfl)
theorem dX3_house_377 : decode cX3_house 377 = .ok (.iload_n 2, 1) := dk_28 (dk_at dksX3_house_15 20 rfl rfl)
theorem dX3_house_378 : decode cX3_house 378 = .ok (.imul, 1) := dk_104 (dk_at dksX3_house_15 21 rfl rfl)
theorem dX3_house_379 : decode cX3_house 379 = .ok (.iload_n 3, 1) := dk_29 (dk_at dksX3_house_15 22 rfl rfl)
theorem dX3_house_380 : decode cX3_house 380 = .ok (.iadd, 1) := dk_96 (dk_at dksX3_house_15 23 rfl rfl)
theorem dX3_house_381 : decode cX3_house 381 = .ok (.aload_n 0, 1) := dk_42 (dk_at dksX3_house_16 0 rfl rfl)
theorem dX3_house_382 : decode cX3_house 382 = .ok (.getfield 28, 3) := dk_180 0 28 (dk_at dksX3_house_16 1 rfl rfl)
theorem dX3_house_385 : decode cX3_house 385 = .ok (.bipush 24, 2) := dk_16 24 (dk_at dksX3_house_16 4 rfl rfl)
theorem dX3_house_387 : decode cX3_house 387 = .ok (.iload_n 2, 1) := dk_28 (dk_at dksX3_house_16 6 rfl rfl)
theorem dX3_house_388 : decode cX3_house 388 = .ok (.imul, 1) := dk_104 (dk_at dksX3_house_16 7 rfl rfl)
theorem dX3_house_389 : decode cX3_house 389 = .ok (.iload_n 3, 1) := dk_29 (dk_at dksX3_house_16 8 rfl rfl)
theorem dX3_house_390 : decode cX3_house 390 = .ok (.iadd, 1) := dk_96 (dk_at dksX3_house_16 9 rfl rfl)
theorem dX3_house_391 : decode cX3_house 391 = .ok (.iaload, 1) := dk_46 (dk_at dksX3_house_16 10 rfl rfl)
theorem dX3_house_392 : decode cX3_house 392 = .ok (.invokestatic 280, 3) := dk_184 1 24 (dk_at dksX3_house_16 11 rfl rfl)
theorem dX3_house_395 : decode cX3_house 395 = .ok (.iastore, 1) := dk_79 (dk_at dksX3_house_16 14 rfl rfl)
theorem dX3_house_396 : decode cX3_house 396 = .ok (.iinc 3 1, 3) := dk_132 3 1 (dk_at dksX3_house_16 15 rfl rfl)
theorem dX3_house_399 : decode cX3_house 399 = .ok (.goto (-34), 3) := dk_167 255 222 (dk_at dksX3_house_16 18 rfl rfl)
theorem dX3_house_402 : decode cX3_house 402 = .ok (.iinc 2 1, 3) := dk_132 2 1 (dk_at dksX3_house_16 21 rfl rfl)
theorem dX3_house_405 : decode cX3_house 405 = .ok (.goto (-50), 3) := dk_167 255 206 (dk_at dksX3_house_17 0 rfl rfl)
theorem dX3_house_408 : decode cX3_house 408 = .ok (.iconst 0, 1) := dk_3 (dk_at dksX3_house_17 3 rfl rfl)
theorem dX3_house_409 : decode cX3_house 409 = .ok (.istore_n 2, 1) := dk_61 (dk_at dksX3_house_17 4 rfl rfl)
theorem dX3_house_410 : decode cX3_house 410 = .ok (.iload_n 2, 1) := dk_28 (dk_at dksX3_house_17 5 rfl rfl)
theorem dX3_house_411 : decode cX3_house 411 = .ok (.aload_n 0, 1) := dk_42 (dk_at dksX3_house_17 6 rfl rfl)
theorem dX3_house_412 : decode cX3_house 412 = .ok (.getfield 254, 3) := dk_180 0 254 (dk_at dksX3_house_17 7 rfl rfl)
theorem dX3_house_415 : decode cX3_house 415 = .ok (.if_icmp .ge 40, 3) := dk_162 0 40 (dk_at dksX3_house_17 10 rfl rfl)
theorem dX3_house_418 : decode cX3_house 418 = .ok (.iconst 0, 1) := dk_3 (dk_at dksX3_house_17 13 rfl rfl)
theorem dX3_house_419 : decode cX3_house 419 = .ok (.istore_n 3, 1) := dk_62 (dk_at dksX3_house_17 14 rfl rfl)
theorem dX3_house_420 : decode cX3_house 420 = .ok (.iload_n 3, 1) := dk_29 (dk_at dksX3_house_17 15 rfl rfl)
theorem dX3_house_421 : decode cX3_house 421 = .ok (.bipush 24, 2) := dk_16 24 (dk_at dksX3_house_17 16 rfl rfl)
theorem dX3_house_423 : decode cX3_house 423 = .ok (.if_icmp .ge 26, 3) := dk_162 0 26 (dk_at dksX3_house_17 18 rfl rfl)
theorem dX3_house_426 : decode cX3_house 426 = .ok (.aload_n 0, 1) := dk_42 (dk_at dksX3_house_17 21 rfl rfl)
theorem dX3_house_427 : decode cX3_house 427 = .ok (.getfield 68, 3) := dk_180 0 68 (dk_at dksX3_house_18 0 rfl rfl)
theorem dX3_house_430 : decode cX3_house 430 = .ok (.bipush 24, 2) := dk_16 24 (dk_at dksX3_house_18 3 rfl rfl)
theorem dX3_house_432 : decode cX3_house 432 = .ok (.iload_n 2, 1) := dk_28 (dk_at dksX3_house_18 5 rfl rfl)
theorem dX3_house_433 : decode cX3_house 433 = .ok (.imul, 1) := dk_104 (dk_at dksX3_house_18 6 rfl rfl)
theorem dX3_house_434 : decode cX3_house 434 = .ok (.iload_n 3, 1) := dk_29 (dk_at dksX3_house_18 7 rfl rfl)
theorem dX3_house_435 : decode cX3_house 435 = .ok (.iadd, 1) := dk_96 (dk_at dksX3_house_18 8 rfl rfl)
theorem dX3_house_436 : decode cX3_house 436 = .ok (.aload_n 0, 1) := dk_42 (dk_at dksX3_house_18 9 rfl rfl)
theorem dX3_house_437 : decode cX3_house 437 = .ok (.getfield 22, 3) := dk_180 0 22 (dk_at dksX3_house_18 10 rfl rfl)
theorem dX3_house_440 : decode cX3_house 440 = .ok (.iload_n 2, 1) := dk_28 (dk_at dksX3_house_18 13 rfl rfl)
theorem dX3_house_441 : decode cX3_house 441 = .ok (.iaload, 1) := dk_46 (dk_at dksX3_house_18 14 rfl rfl)
theorem dX3_house_442 : decode cX3_house 442 = .ok (.iastore, 1) := dk_79 (dk_at dksX3_house_18 15 rfl rfl)
theorem dX3_house_443 : decode cX3_house 443 = .ok (.iinc 3 1, 3) := dk_132 3 1 (dk_at dksX3_house_18 16 rfl rfl)
theorem dX3_house_446 : decode cX3_house 446 = .ok (.goto (-26), 3) := dk_167 255 230 (dk_at dksX3_house_18 19 rfl rfl)
theorem dX3_house_449 : decode cX3_house 449 = .ok (.iinc 2 1, 3) := dk_132 2 1 (dk_at dksX3_house_19 0 rfl rfl)
theorem dX3_house_452 : decode cX3_house 452 = .ok (.goto (-42), 3) := dk_167 255 214 (dk_at dksX3_house_19 3 rfl rfl)
theorem dX3_house_455 : decode cX3_house 455 = .ok (.iconst 0, 1) := dk_3 (dk_at dksX3_house_19 6 rfl rfl)
theorem dX3_house_456 : decode cX3_house 456 = .ok (.ireturn, 1) := dk_172 (dk_at dksX3_house_19 7 rfl rfl)
def dkwX3_right_1 : List UInt8 := [167, 0, 4, 3, 172]
abbrev dktX3_right_1 : List UInt8 := dkwX3_right_1 ++ []
def dkwX3_right_0 : List UInt8 := [42, 180, 0, 134, 154, 0, 12, 27, 154, 0, 8, 42, 28, 181, 0, 134, 42, 180, 0, 134, 154, 0, 7, 4]
abbrev dktX3_right_0 : List UInt8 := dkwX3_right_0 ++ dktX3_right_1
theorem dksX3_right_0 : cX3_right.data.toList.drop 0 = dktX3_right_0 := by decide +kernel
theorem dksX3_right_1 : cX3_right.data.toList.drop 24 = dktX3_right_1 := dk_seg dksX3_right_0 24 rfl rfl
theorem dX3_right_0 : decode cX3_right 0 = .ok (.aload_n 0, 1) := dk_42 (dk_at dksX3_right_0 0 rfl rfl)
theorem dX3_right_1 : decode cX3_right 1 = .ok (.getfield 134, 3) := dk_180 0 134 (dk_at dksX3_right_0 1 rfl rfl)
theorem dX3_right_4 : decode cX3_right 4 = .ok (.ifCond .ne 12, 3) := dk_154 0 12 (dk_at dksX3_right_0 4 rfl rfl)
theorem dX3_right_7 : decode cX3_right 7 = .ok (.iload_n 1, 1) := dk_27 (dk_at dksX3_right_0 7 rfl rfl)
theorem dX3_right_8 : decode cX3_right 8 = .ok (.ifCond .ne 8, 3) := dk_154 0 8 (dk_at dksX3_right_0 8 rfl rfl)
theorem dX3_right_11 : decode cX3_right 11 = .ok (.aload_n 0, 1) := dk_42 (dk_at dksX3_right_0 11 rfl rfl)
theorem dX3_right_12 : decode cX3_right 12 = .ok (.iload_n 2, 1) := dk_28 (dk_at dksX3_right_0 12 rfl rfl)
theorem dX3_right_13 : decode cX3_right 13 = .ok (.putfield 134, 3) := dk_181 0 134 (dk_at dksX3_right_0 13 rfl rfl)
theorem dX3_right_16 : decode cX3_right 16 = .ok (.aload_n 0, 1) := dk_42 (dk_at dksX3_right_0 16 rfl rfl)
theorem dX3_right_17 : decode cX3_right 17 = .ok (.getfield 134, 3) := dk_180 0 134 (dk_at dksX3_right_0 17 rfl rfl)
theorem dX3_right_20 : decode cX3_right 20 = .ok (.ifCond .ne 7, 3) := dk_154 0 7 (dk_at dksX3_right_0 20 rfl rfl)
theorem dX3_right_23 : decode cX3_right 23 = .ok (.iconst 1, 1) := dk_4 (dk_at dksX3_right_0 23 rfl rfl)
theorem dX3_right_24 : decode cX3_right 24 = .ok (.goto 4, 3) := dk_167 0 4 (dk_at dksX3_right_1 0 rfl rfl)
theorem dX3_right_27 : decode cX3_right 27 = .ok (.iconst 0, 1) := dk_3 (dk_at dksX3_right_1 3 rfl rfl)
theorem dX3_right_28 : decode cX3_right 28 = .ok (.ireturn, 1) := dk_172 (dk_at dksX3_right_1 4 rfl rfl)
def dkwX3_steps_12 : List UInt8 := [180, 0, 147, 42, 180, 0, 154, 100, 181, 0, 174, 177]
abbrev dktX3_steps_12 : List UInt8 := dkwX3_steps_12 ++ []
def dkwX3_steps_11 : List UInt8 := [4, 96, 181, 0, 147, 42, 27, 16, 59, 160, 0, 7, 6, 167, 0, 4, 7, 181, 0, 164, 42, 42]
abbrev dktX3_steps_11 : List UInt8 := dkwX3_steps_11 ++ dktX3_steps_12
def dkwX3_steps_10 : List UInt8 := [180, 0, 147, 4, 96, 181, 0, 147, 167, 255, 196, 42, 5, 181, 0, 164, 167, 0, 28, 42, 89, 180, 0, 147]
abbrev dktX3_steps_10 : List UInt8 := dkwX3_steps_10 ++ dktX3_steps_11
def dkwX3_steps_9 : List UInt8 := [16, 10, 42, 180, 0, 161, 104, 42, 42, 180, 0, 147, 182, 0, 150, 96, 16, 48, 100, 181, 0, 161, 42, 89]
abbrev dktX3_steps_9 : List UInt8 := dkwX3_steps_9 ++ dktX3_steps_10
def dkwX3_steps_8 : List UInt8 := [182, 0, 150, 184, 0, 171, 153, 0, 52, 42, 180, 0, 147, 42, 180, 0, 154, 100, 6, 162, 0, 26, 42]
abbrev dktX3_steps_8 : List UInt8 := dkwX3_steps_8 ++ dktX3_steps_9
def dkwX3_steps_7 : List UInt8 := [167, 255, 195, 42, 4, 181, 0, 164, 167, 0, 106, 27, 184, 0, 171, 153, 0, 74, 42, 42, 180, 0, 147]
abbrev dktX3_steps_7 : List UInt8 := dkwX3_steps_7 ++ dktX3_steps_8
def dkwX3_steps_6 : List UInt8 := [180, 0, 147, 182, 0, 150, 16, 96, 100, 133, 129, 181, 0, 157, 42, 89, 180, 0, 147, 4, 96, 181, 0, 147]
abbrev dktX3_steps_6 : List UInt8 := dkwX3_steps_6 ++ dktX3_steps_7
def dkwX3_steps_5 : List UInt8 := [42, 180, 0, 147, 42, 180, 0, 154, 100, 16, 6, 162, 0, 26, 42, 42, 180, 0, 157, 8, 121, 42, 42]
abbrev dktX3_steps_5 : List UInt8 := dkwX3_steps_5 ++ dktX3_steps_6
def dkwX3_steps_4 : List UInt8 := [167, 0, 185, 27, 184, 0, 167, 153, 0, 75, 42, 42, 180, 0, 147, 182, 0, 150, 184, 0, 167, 153, 0, 53]
abbrev dktX3_steps_4 : List UInt8 := dkwX3_steps_4 ++ dktX3_steps_5
def dkwX3_steps_3 : List UInt8 := [180, 0, 147, 182, 0, 150, 60, 42, 180, 0, 147, 42, 180, 0, 144, 161, 0, 11, 42, 3, 181, 0, 164]
abbrev dktX3_steps_3 : List UInt8 := dkwX3_steps_3 ++ dktX3_steps_4
def dkwX3_steps_2 : List UInt8 := [167, 255, 209, 42, 42, 180, 0, 147, 181, 0, 154, 42, 9, 181, 0, 157, 42, 3, 181, 0, 161, 42, 42]
abbrev dktX3_steps_2 : List UInt8 := dkwX3_steps_2 ++ dktX3_steps_3
def dkwX3_steps_1 : List UInt8 := [42, 42, 180, 0, 147, 182, 0, 150, 16, 10, 160, 0, 16, 42, 89, 180, 0, 147, 4, 96, 181, 0, 147]
abbrev dktX3_steps_1 : List UInt8 := dkwX3_steps_1 ++ dktX3_steps_2
def dkwX3_steps_0 : List UInt8 := [42, 180, 0, 147, 42, 180, 0, 144, 162, 0, 42, 42, 42, 180, 0, 147, 182, 0, 150, 16, 32, 159, 0, 16]
abbrev dktX3_steps_0 : List UInt8 := dkwX3_steps_0 ++ dktX3_steps_1
theorem dksX3_steps_0 : cX3_steps.data.toList.drop 0 = dktX3_steps_0 := by decide +kernel
theorem dksX3_steps_1 : cX3_steps.data.toList.drop 24 = dktX3_steps_1 := dk_seg dksX3_steps_0 24 rfl rfl
theorem dksX3_steps_2 : cX3_steps.data.toList.drop 47 = dktX3_steps_2 := dk_seg dksX3_steps_1 23 rfl rfl
theorem dksX3_steps_3 : cX3_steps.data.toList.drop 70 = dktX3_steps_3 := dk_seg dksX3_steps_2 23 rfl rfl
theorem dksX3_steps_4 : cX3_steps.data.toList.drop 93 = dktX3_steps_4 := dk_seg dksX3_steps_3 23 rfl rfl
theorem dksX3_steps_5 : cX3_steps.data.toList.drop 117 = dktX3_steps_5 := dk_seg dksX3_steps_4 24 rfl rfl
theorem dksX3_steps_6 : cX3_steps.data.toList.drop 140 = dktX3_steps_6 := dk_seg dksX3_steps_5 23 rfl rfl
theorem dksX3_steps_7 : cX3_steps.data.toList.drop 164 = dktX3_steps_7 := dk_seg dksX3_steps_6 24 rfl rfl
theorem dksX3_steps_8 : cX3_steps.data.toList.drop 187 = dktX3_steps_8 := dk_seg dksX3_steps_7 23 rfl rfl
theorem dksX3_steps_9 : cX3_steps.data.toList.drop 210 = dktX3_steps_9 := dk_seg dksX3_steps_8 23 rfl rfl
theorem dksX3_steps_10 : cX3_steps.data.toList.drop 234 = dktX3_steps_10 := dk_seg dksX3_steps_9 24 rfl rfl
theorem dksX3_steps_11 : cX3_steps.data.toList.drop 258 = dktX3_steps_11 := dk_seg dksX3_steps_10 24 rfl rfl
theorem dksX3_steps_12 : cX3_steps.data.toList.drop 280 = dktX3_steps_12 := dk_seg dksX3_steps_11 22 rfl rfl
theorem dX3_steps_0 : decode cX3_steps 0 = .ok (.aload_n 0, 1) := dk_42 (dk_at dksX3_steps_0 0 rfl rfl)
theorem dX3_steps_1 : decode cX3_steps 1 = .ok (.getfield 147, 3) := dk_180 0 147 (dk_at dksX3_steps_0 1 rfl rfl)
theorem dX3_steps_4 : decode cX3_steps 4 = .ok (.aload_n 0, 1) := dk_42 (dk_at dksX3_steps_0 4 rfl rfl)
theorem dX3_steps_5 : decode cX3_steps 5 = .ok (.getfield 144, 3) := dk_180 0 144 (dk_at dksX3_steps_0 5 rfl rfl)
theorem dX3_steps_8 : decode cX3_steps 8 = .ok (.if_icmp .ge 42, 3) := dk_162 0 42 (dk_at dksX3_steps_0 8 rfl rfl)
theorem dX3_steps_11 : decode cX3_steps 11 = .ok (.aload_n 0, 1) := dk_42 (dk_at dksX3_steps_0 11 rfl rfl)
theorem dX3_steps_12 : decode cX3_steps 12 = .ok (.aload_n 0, 1) := dk_42 (dk_at dksX3_steps_0 12 rfl rfl)
theorem dX3_steps_13 : decode cX3_steps 13 = .ok (.getfield 147, 3) := dk_180 0 147 (dk_at dksX3_steps_0 13 rfl rfl)
theorem dX3_steps_16 : decode cX3_steps 16 = .ok (.invokevirtual 150, 3) := dk_182 0 150 (dk_at dksX3_steps_0 16 rfl rfl)
theorem dX3_steps_19 : decode cX3_steps 19 = .ok (.bipush 32, 2) := dk_16 32 (dk_at dksX3_steps_0 19 rfl rfl)
theorem dX3_steps_21 : decode cX3_steps 21 = .ok (.if_icmp .eq 16, 3) := dk_159 0 16 (dk_at dksX3_steps_0 21 rfl rfl)
theorem dX3_steps_24 : decode cX3_steps 24 = .ok (.aload_n 0, 1) := dk_42 (dk_at dksX3_steps_1 0 rfl rfl)
theorem dX3_steps_25 : decode cX3_steps 25 = .ok (.aload_n 0, 1) := dk_42 (dk_at dksX3_steps_1 1 rfl rfl)
theorem dX3_steps_26 : decode cX3_steps 26 = .ok (.getfield 147, 3) := dk_180 0 147 (dk_at dksX3_steps_1 2 rfl rfl)
theorem dX3_steps_29 : decode cX3_steps 29 = .ok (.invokevirtual 150, 3) := dk_182 0 150 (dk_at dksX3_steps_1 5 rfl rfl)
theorem dX3_steps_32 : decode cX3_steps 32 = .ok (.bipush 10, 2) := dk_16 10 (dk_at dksX3_steps_1 8 rfl rfl)
theorem dX3_steps_34 : decode cX3_steps 34 = .ok (.if_icmp .ne 16, 3) := dk_160 0 16 (dk_at dksX3_steps_1 10 rfl rfl)
theorem dX3_steps_37 : decode cX3_steps 37 = .ok (.aload_n 0, 1) := dk_42 (dk_at dksX3_steps_1 13 rfl rfl)
theorem dX3_steps_38 : decode cX3_steps 38 = .ok (.dup, 1) := dk_89 (dk_at dksX3_steps_1 14 rfl rfl)
theorem dX3_steps_39 : decode cX3_steps 39 = .ok (.getfield 147, 3) := dk_180 0 147 (dk_at dksX3_steps_1 15 rfl rfl)
theorem dX3_steps_42 : decode cX3_steps 42 = .ok (.iconst 1, 1) := dk_4 (dk_at dksX3_steps_1 18 rfl rfl)
theorem dX3_steps_43 : decode cX3_steps 43 = .ok (.iadd, 1) := dk_96 (dk_at dksX3_steps_1 19 rfl rfl)
theorem dX3_steps_44 : decode cX3_steps 44 = .ok (.putfield 147, 3) := dk_181 0 147 (dk_at dksX3_steps_1 20 rfl rfl)
theorem dX3_steps_47 : decode cX3_steps 47 = .ok (.goto (-47), 3) := dk_167 255 209 (dk_at dksX3_steps_2 0 rfl rfl)
theorem dX3_steps_50 : decode cX3_steps 50 = .ok (.aload_n 0, 1) := dk_42 (dk_at dksX3_steps_2 3 rfl rfl)
theorem dX3_steps_51 : decode cX3_steps 51 = .ok (.aload_n 0, 1) := dk_42 (dk_at dksX3_steps_2 4 rfl rfl)
theorem dX3_steps_52 : decode cX3_steps 52 = .ok (.getfield 147, 3) := dk_180 0 147 (dk_at dksX3_steps_2 5 rfl rfl)
theorem dX3_steps_55 : decode cX3_steps 55 = .ok (.putfield 154, 3) := dk_181 0 154 (dk_at dksX3_steps_2 8 rfl rfl)
theorem dX3_steps_58 : decode cX3_steps 58 = .ok (.aload_n 0, 1) := dk_42 (dk_at dksX3_steps_2 11 rfl rfl)
theorem dX3_steps_59 : decode cX3_steps 59 = .ok (.lconst 0, 1) := dk_9 (dk_at dksX3_steps_2 12 rfl rfl)
theorem dX3_steps_60 : decode cX3_steps 60 = .ok (.putfield 157, 3) := dk_181 0 157 (dk_at dksX3_steps_2 13 rfl rfl)
theorem dX3_steps_63 : decode cX3_steps 63 = .ok (.aload_n 0, 1) := dk_42 (dk_at dksX3_steps_2 16 rfl rfl)
theorem dX3_steps_64 : decode cX3_steps 64 = .ok (.iconst 0, 1) := dk_3 (dk_at dksX3_steps_2 17 rfl rfl)
theorem dX3_steps_65 : decode cX3_steps 65 = .ok (.putfield 161, 3) := dk_181 0 161 (dk_at dksX3_steps_2 18 rfl rfl)
theorem dX3_steps_68 : decode cX3_steps 68 = .ok (.aload_n 0, 1) := dk_42 (dk_at dksX3_steps_2 21 rfl rfl)
theorem dX3_steps_69 : decode cX3_steps 69 = .ok (.aload_n 0, 1) := dk_42 (dk_at dksX3_steps_2 22 rfl rfl)
theorem dX3_steps_70 : decode cX3_steps 70 = .ok (.getfield 147, 3) := dk_180 0 147 (dk_at dksX3_steps_3 0 rfl rfl)
theorem dX3_steps_73 : decode cX3_steps 73 = .ok (.invokevirtual 150, 3) := dk_182 0 150 (dk_at dksX3_steps_3 3 rfl rfl)
theorem dX3_steps_76 : decode cX3_steps 76 = .ok (.istore_n 1, 1) := dk_60 (dk_at dksX3_steps_3 6 rfl rfl)
theorem dX3_steps_77 : decode cX3_steps 77 = .ok (.aload_n 0, 1) := dk_42 (dk_at dksX3_steps_3 7 rfl rfl)
theorem dX3_steps_78 : decode cX3_steps 78 = .ok (.getfield 147, 3) := dk_180 0 147 (dk_at dksX3_steps_3 8 rfl rfl)
theorem dX3_steps_81 : decode cX3_steps 81 = .ok (.aload_n 0, 1) := dk_42 (dk_at dksX3_steps_3 11 rfl rfl)
theorem dX3_steps_82 : decode cX3_steps 82 = .ok (.getfield 144, 3) := dk_180 0 144 (dk_at dksX3_steps_3 12 rfl rfl)
theorem dX3_steps_85 : decode cX3_steps 85 = .ok (.if_icmp .lt 11, 3) := dk_161 0 11 (dk_at dksX3_steps_3 15 rfl rfl)
theorem dX3_steps_88 : decode cX3_steps 88 = .ok (.aload_n 0, 1) := dk_42 (dk_at dksX3_steps_3 18 rfl rfl)
theorem dX3_steps_89 : decode cX3_steps 89 = .ok (.iconst 0, 1) := dk_3 (dk_at dksX3_steps_3 19 rfl rfl)
theorem dX3_steps_90 : decode cX3_steps 90 = .ok (.putfield 164, 3) := dk_181 0 164 (dk_at dksX3_steps_3 20 rfl rfl)
theorem dX3_steps_93 : decode cX3_steps 93 = .ok (.goto 185, 3) := dk_167 0 185 (dk_at dksX3_steps_4 0 rfl rfl)
theorem dX3_steps_96 : decode cX3_steps 96 = .ok (.iload_n 1, 1) := dk_27 (dk_at dksX3_steps_4 3 rfl rfl)
theorem dX3_steps_97 : decode cX3_steps 97 = .ok (.invokestatic 167, 3) := dk_184 0 167 (dk_at dksX3_steps_4 4 rfl rfl)
theorem dX3_steps_100 : decode cX3_steps 100 = .ok (.ifCond .eq 75, 3) := dk_153 0 75 (dk_at dksX3_steps_4 7 rfl rfl)
theorem dX3_steps_103 : decode cX3_steps 103 = .ok (.aload_n 0, 1) := dk_42 (dk_at dksX3_steps_4 10 rfl rfl)
theorem dX3_steps_104 : decode cX3_steps 104 = .ok (.aload_n 0, 1) := dk_42 (dk_at dksX3_steps_4 11 rfl rfl)
theorem dX3_steps_105 : decode cX3_steps 105 = .ok (.getfield 147, 3) := dk_180 0 147 (dk_at dksX3_steps_4 12 rfl rfl)
theorem dX3_steps_108 : decode cX3_steps 108 = .ok (.invokevirtual 150, 3) := dk_182 0 150 (dk_at dksX3_steps_4 15 rfl rfl)
theorem dX3_steps_111 : decode cX3_steps 111 = .ok (.invokestatic 167, 3) := dk_184 0 167 (dk_at dksX3_steps_4 18 rfl rfl)
theorem dX3_steps_114 : decode cX3_steps 114 = .ok (.ifCond .eq 53, 3) := dk_153 0 53 (dk_at dksX3_steps_4 21 rfl rfl)
theorem dX3_steps_117 : decode cX3_steps 117 = .ok (.aload_n 0, 1) := dk_42 (dk_at dksX3_steps_5 0 rfl rfl)
theorem dX3_steps_118 : decode cX3_steps 118 = .ok (.getfield 147, 3) := dk_180 0 147 (dk_at dksX3_steps_5 1 rfl rfl)
theorem dX3_steps_121 : decode cX3_steps 121 = .ok (.aload_n 0, 1) := dk_42 (dk_at dksX3_steps_5 4 rfl rfl)
theorem dX3_steps_122 : decode cX3_steps 122 = .ok (.getfield 154, 3) := dk_180 0 154 (dk_at dksX3_steps_5 5 rfl rfl)
theorem dX3_steps_125 : decode cX3_steps 125 = .ok (.isub, 1) := dk_100 (dk_at dksX3_steps_5 8 rfl rfl)
theorem dX3_steps_126 : decode cX3_steps 126 = .ok (.bipush 6, 2) := dk_16 6 (dk_at dksX3_steps_5 9 rfl rfl)
theorem dX3_steps_128 : decode cX3_steps 128 = .ok (.if_icmp .ge 26, 3) := dk_162 0 26 (dk_at dksX3_steps_5 11 rfl rfl)
theorem dX3_steps_131 : decode cX3_steps 131 = .ok (.aload_n 0, 1) := dk_42 (dk_at dksX3_steps_5 14 rfl rfl)
theorem dX3_steps_132 : decode cX3_steps 132 = .ok (.aload_n 0, 1) := dk_42 (dk_at dksX3_steps_5 15 rfl rfl)
theorem dX3_steps_133 : decode cX3_steps 133 = .ok (.getfield 157, 3) := dk_180 0 157 (dk_at dksX3_steps_5 16 rfl rfl)
theorem dX3_steps_136 : decode cX3_steps 136 = .ok (.iconst 5, 1) := dk_8 (dk_at dksX3_steps_5 19 rfl rfl)
theorem dX3_steps_137 : decode cX3_steps 137 = .ok (.lshl, 1) := dk_121 (dk_at dksX3_steps_5 20 rfl rfl)
theorem dX3_steps_138 : decode cX3_steps 138 = .ok (.aload_n 0, 1) := dk_42 (dk_at dksX3_steps_5 21 rfl rfl)
theorem dX3_steps_139 : decode cX3_steps 139 = .ok (.aload_n 0, 1) := dk_42 (dk_at dksX3_steps_5 22 rfl rfl)
theorem dX3_steps_140 : decode cX3_steps 140 = .ok (.getfield 147, 3) := dk_180 0 147 (dk_at dksX3_steps_6 0 rfl rfl)
theorem dX3_steps_143 : decode cX3_steps 143 = .ok (.invokevirtual 150, 3) := dk_182 0 150 (dk_at dksX3_steps_6 3 rfl rfl)
theorem dX3_steps_146 : decode cX3_steps 146 = .ok (.bipush 96, 2) := dk_16 96 (dk_at dksX3_steps_6 6 rfl rfl)
theorem dX3_steps_148 : decode cX3_steps 148 = .ok (.isub, 1) := dk_100 (dk_at dksX3_steps_6 8 rfl rfl)
theorem dX3_steps_149 : decode cX3_steps 149 = .ok (.i2l, 1) := dk_133 (dk_at dksX3_steps_6 9 rfl rfl)
theorem dX3_steps_150 : decode cX3_steps 150 = .ok (.lor, 1) := dk_129 (dk_at dksX3_steps_6 10 rfl rfl)
theorem dX3_steps_151 : decode cX3_steps 151 = .ok (.putfield 157, 3) := dk_181 0 157 (dk_at dksX3_steps_6 11 rfl rfl)
theorem dX3_steps_154 : decode cX3_steps 154 = .ok (.aload_n 0, 1) := dk_42 (dk_at dksX3_steps_6 14 rfl rfl)
theorem dX3_steps_155 : decode cX3_steps 155 = .ok (.dup, 1) := dk_89 (dk_at dksX3_steps_6 15 rfl rfl)
theorem dX3_steps_156 : decode cX3_steps 156 = .ok (.getfield 147, 3) := dk_180 0 147 (dk_at dksX3_steps_6 16 rfl rfl)
theorem dX3_steps_159 : decode cX3_steps 159 = .ok (.iconst 1, 1) := dk_4 (dk_at dksX3_steps_6 19 rfl rfl)
theorem dX3_steps_160 : decode cX3_steps 160 = .ok (.iadd, 1) := dk_96 (dk_at dksX3_steps_6 20 rfl rfl)
theorem dX3_steps_161 : decode cX3_steps 161 = .ok (.putfield 147, 3) := dk_181 0 147 (dk_at dksX3_steps_6 21 rfl rfl)
theorem dX3_steps_164 : decode cX3_steps 164 = .ok (.goto (-61), 3) := dk_167 255 195 (dk_at dksX3_steps_7 0 rfl rfl)
theorem dX3_steps_167 : decode cX3_steps 167 = .ok (.aload_n 0, 1) := dk_42 (dk_at dksX3_steps_7 3 rfl rfl)
theorem dX3_steps_168 : decode cX3_steps 168 = .ok (.iconst 1, 1) := dk_4 (dk_at dksX3_steps_7 4 rfl rfl)
theorem dX3_steps_169 : decode cX3_steps 169 = .ok (.putfield 164, 3) := dk_181 0 164 (dk_at dksX3_steps_7 5 rfl rfl)
theorem dX3_steps_172 : decode cX3_steps 172 = .ok (.goto 106, 3) := dk_167 0 106 (dk_at dksX3_steps_7 8 rfl rfl)
theorem dX3_steps_175 : decode cX3_steps 175 = .ok (.iload_n 1, 1) := dk_27 (dk_at dksX3_steps_7 11 rfl rfl)
theorem dX3_steps_176 : decode cX3_steps 176 = .ok (.invokestatic 171, 3) := dk_184 0 171 (dk_at dksX3_steps_7 12 rfl rfl)
theorem dX3_steps_179 : decode cX3_steps 179 = .ok (.ifCond .eq 74, 3) := dk_153 0 74 (dk_at dksX3_steps_7 15 rfl rfl)
theorem dX3_steps_182 : decode cX3_steps 182 = .ok (.aload_n 0, 1) := dk_42 (dk_at dksX3_steps_7 18 rfl rfl)
theorem dX3_steps_183 : decode cX3_steps 183 = .ok (.aload_n 0, 1) := dk_42 (dk_at dksX3_steps_7 19 rfl rfl)
theorem dX3_steps_184 : decode cX3_steps 184 = .ok (.getfield 147, 3) := dk_180 0 147 (dk_at dksX3_steps_7 20 rfl rfl)
theorem dX3_steps_187 : decode cX3_steps 187 = .ok (.invokevirtual 150, 3) := dk_182 0 150 (dk_at dksX3_steps_8 0 rfl rfl)
theorem dX3_steps_190 : decode cX3_steps 190 = .ok (.invokestatic 171, 3) := dk_184 0 171 (dk_at dksX3_steps_8 3 rfl rfl)
theorem dX3_steps_193 : decode cX3_steps 193 = .ok (.ifCond .eq 52, 3) := dk_153 0 52 (dk_at dksX3_steps_8 6 rfl rfl)
theorem dX3_steps_196 : decode cX3_steps 196 = .ok (.aload_n 0, 1) := dk_42 (dk_at dksX3_steps_8 9 rfl rfl)
theorem dX3_steps_197 : decode cX3_steps 197 = .ok (.getfield 147, 3) := dk_180 0 147 (dk_at dksX3_steps_8 10 rfl rfl)
theorem dX3_steps_200 : decode cX3_steps 200 = .ok (.aload_n 0, 1) := dk_42 (dk_at dksX3_steps_8 13 rfl rfl)
theorem dX3_steps_201 : decode cX3_steps 201 = .ok (.getfield 154, 3) := dk_180 0 154 (dk_at dksX3_steps_8 14 rfl rfl)
theorem dX3_steps_204 : decode cX3_steps 204 = .ok (.isub, 1) := dk_100 (dk_at dksX3_steps_8 17 rfl rfl)
theorem dX3_steps_205 : decode cX3_steps 205 = .ok (.iconst 3, 1) := dk_6 (dk_at dksX3_steps_8 18 rfl rfl)
theorem dX3_steps_206 : decode cX3_steps 206 = .ok (.if_icmp .ge 26, 3) := dk_162 0 26 (dk_at dksX3_steps_8 19 rfl rfl)
theorem dX3_steps_209 : decode cX3_steps 209 = .ok (.aload_n 0, 1) := dk_42 (dk_at dksX3_steps_8 22 rfl rfl)
theorem dX3_steps_210 : decode cX3_steps 210 = .ok (.bipush 10, 2) := dk_16 10 (dk_at dksX3_steps_9 0 rfl rfl)
theorem dX3_steps_212 : decode cX3_steps 212 = .ok (.aload_n 0, 1) := dk_42 (dk_at dksX3_steps_9 2 rfl rfl)
theorem dX3_steps_213 : decode cX3_steps 213 = .ok (.getfield 161, 3) := dk_180 0 161 (dk_at dksX3_steps_9 3 rfl rfl)
theorem dX3_steps_216 : decode cX3_steps 216 = .ok (.imul, 1) := dk_104 (dk_at dksX3_steps_9 6 rfl rfl)
theorem dX3_steps_217 : decode cX3_steps 217 = .ok (.aload_n 0, 1) := dk_42 (dk_at dksX3_steps_9 7 rfl rfl)
theorem dX3_steps_218 : decode cX3_steps 218 = .ok (.aload_n 0, 1) := dk_42 (dk_at dksX3_steps_9 8 rfl rfl)
theorem dX3_steps_219 : decode cX3_steps 219 = .ok (.getfield 147, 3) := dk_180 0 147 (dk_at dksX3_steps_9 9 rfl rfl)
theorem dX3_steps_222 : decode cX3_steps 222 = .ok (.invokevirtual 150, 3) := dk_182 0 150 (dk_at dksX3_steps_9 12 rfl rfl)
theorem dX3_steps_225 : decode cX3_steps 225 = .ok (.iadd, 1) := dk_96 (dk_at dksX3_steps_9 15 rfl rfl)
theorem dX3_steps_226 : decode cX3_steps 226 = .ok (.bipush 48, 2) := dk_16 48 (dk_at dksX3_steps_9 16 rfl rfl)
theorem dX3_steps_228 : decode cX3_steps 228 = .ok (.isub, 1) := dk_100 (dk_at dksX3_steps_9 18 rfl rfl)
theorem dX3_steps_229 : decode cX3_steps 229 = .ok (.putfield 161, 3) := dk_181 0 161 (dk_at dksX3_steps_9 19 rfl rfl)
theorem dX3_steps_232 : decode cX3_steps 232 = .ok (.aload_n 0, 1) := dk_42 (dk_at dksX3_steps_9 22 rfl rfl)
theorem dX3_steps_233 : decode cX3_steps 233 = .ok (.dup, 1) := dk_89 (dk_at dksX3_steps_9 23 rfl rfl)
theorem dX3_steps_234 : decode cX3_steps 234 = .ok (.getfield 147, 3) := dk_180 0 147 (dk_at dksX3_steps_10 0 rfl rfl)
theorem dX3_steps_237 : decode cX3_steps 237 = .ok (.iconst 1, 1) := dk_4 (dk_at dksX3_steps_10 3 rfl rfl)
theorem dX3_steps_238 : decode cX3_steps 238 = .ok (.iadd, 1) := dk_96 (dk_at dksX3_steps_10 4 rfl rfl)
theorem dX3_steps_239 : decode cX3_steps 239 = .ok (.putfield 147, 3) := dk_181 0 147 (dk_at dksX3_steps_10 5 rfl rfl)
theorem dX3_steps_242 : decode cX3_steps 242 = .ok (.goto (-60), 3) := dk_167 255 196 (dk_at dksX3_steps_10 8 rfl rfl)
theorem dX3_steps_245 : decode cX3_steps 245 = .ok (.aload_n 0, 1) := dk_42 (dk_at dksX3_steps_10 11 rfl rfl)
theorem dX3_steps_246 : decode cX3_steps 246 = .ok (.iconst 2, 1) := dk_5 (dk_at dksX3_steps_10 12 rfl rfl)
theorem dX3_steps_247 : decode cX3_steps 247 = .ok (.putfield 164, 3) := dk_181 0 164 (dk_at dksX3_steps_10 13 rfl rfl)
theorem dX3_steps_250 : decode cX3_steps 250 = .ok (.goto 28, 3) := dk_167 0 28 (dk_at dksX3_steps_10 16 rfl rfl)
theorem dX3_steps_253 : decode cX3_steps 253 = .ok (.aload_n 0, 1) := dk_42 (dk_at dksX3_steps_10 19 rfl rfl)
theorem dX3_steps_254 : decode cX3_steps 254 = .ok (.dup, 1) := dk_89 (dk_at dksX3_steps_10 20 rfl rfl)
theorem dX3_steps_255 : decode cX3_steps 255 = .ok (.getfield 147, 3) := dk_180 0 147 (dk_at dksX3_steps_10 21 rfl rfl)
theorem dX3_steps_258 : decode cX3_steps 258 = .ok (.iconst 1, 1) := dk_4 (dk_at dksX3_steps_11 0 rfl rfl)
theorem dX3_steps_259 : decode cX3_steps 259 = .ok (.iadd, 1) := dk_96 (dk_at dksX3_steps_11 1 rfl rfl)
theorem dX3_steps_260 : decode cX3_steps 260 = .ok (.putfield 147, 3) := dk_181 0 147 (dk_at dksX3_steps_11 2 rfl rfl)
theorem dX3_steps_263 : decode cX3_steps 263 = .ok (.aload_n 0, 1) := dk_42 (dk_at dksX3_steps_11 5 rfl rfl)
theorem dX3_steps_264 : decode cX3_steps 264 = .ok (.iload_n 1, 1) := dk_27 (dk_at dksX3_steps_11 6 rfl rfl)
theorem dX3_steps_265 : decode cX3_steps 265 = .ok (.bipush 59, 2) := dk_16 59 (dk_at dksX3_steps_11 7 rfl rfl)
theorem dX3_steps_267 : decode cX3_steps 267 = .ok (.if_icmp .ne 7, 3) := dk_160 0 7 (dk_at dksX3_steps_11 9 rfl rfl)
theorem dX3_steps_270 : decode cX3_steps 270 = .ok (.iconst 3, 1) := dk_6 (dk_at dksX3_steps_11 12 rfl rfl)
theorem dX3_steps_271 : decode cX3_steps 271 = .ok (.goto 4, 3) := dk_167 0 4 (dk_at dksX3_steps_11 13 rfl rfl)
theorem dX3_steps_274 : decode cX3_steps 274 = .ok (.iconst 4, 1) := dk_7 (dk_at dksX3_steps_11 16 rfl rfl)
theorem dX3_steps_275 : decode cX3_steps 275 = .ok (.putfield 164, 3) := dk_181 0 164 (dk_at dksX3_steps_11 17 rfl rfl)
theorem dX3_steps_278 : decode cX3_steps 278 = .ok (.aload_n 0, 1) := dk_42 (dk_at dksX3_steps_11 20 rfl rfl)
theorem dX3_steps_279 : decode cX3_steps 279 = .ok (.aload_n 0, 1) := dk_42 (dk_at dksX3_steps_11 21 rfl rfl)
theorem dX3_steps_280 : decode cX3_steps 280 = .ok (.getfield 147, 3) := dk_180 0 147 (dk_at dksX3_steps_12 0 rfl rfl)
theorem dX3_steps_283 : decode cX3_steps 283 = .ok (.aload_n 0, 1) := dk_42 (dk_at dksX3_steps_12 3 rfl rfl)
theorem dX3_steps_284 : decode cX3_steps 284 = .ok (.getfield 154, 3) := dk_180 0 154 (dk_at dksX3_steps_12 4 rfl rfl)
theorem dX3_steps_287 : decode cX3_steps 287 = .ok (.isub, 1) := dk_100 (dk_at dksX3_steps_12 7 rfl rfl)
theorem dX3_steps_288 : decode cX3_steps 288 = .ok (.putfield 174, 3) := dk_181 0 174 (dk_at dksX3_steps_12 8 rfl rfl)
theorem dX3_steps_291 : decode cX3_steps 291 = .ok (.return_, 1) := dk_177 (dk_at dksX3_steps_12 11 rfl rfl)
def dkwX3_byteAt_0 : List UInt8 := [27, 42, 180, 0, 144, 162, 0, 12, 42, 180, 0, 31, 27, 46, 167, 0, 4, 3, 172]
abbrev dktX3_byteAt_0 : List UInt8 := dkwX3_byteAt_0 ++ []
theorem dksX3_byteAt_0 : cX3_byteAt.data.toList.drop 0 = dktX3_byteAt_0 := by decide +kernel
theorem dX3_byteAt_0 : decode cX3_byteAt 0 = .ok (.iload_n 1, 1) := dk_27 (dk_at dksX3_byteAt_0 0 rfl rfl)
theorem dX3_byteAt_1 : decode cX3_byteAt 1 = .ok (.aload_n 0, 1) := dk_42 (dk_at dksX3_byteAt_0 1 rfl rfl)
theorem dX3_byteAt_2 : decode cX3_byteAt 2 = .ok (.getfield 144, 3) := dk_180 0 144 (dk_at dksX3_byteAt_0 2 rfl rfl)
theorem dX3_byteAt_5 : decode cX3_byteAt 5 = .ok (.if_icmp .ge 12, 3) := dk_162 0 12 (dk_at dksX3_byteAt_0 5 rfl rfl)
theorem dX3_byteAt_8 : decode cX3_byteAt 8 = .ok (.aload_n 0, 1) := dk_42 (dk_at dksX3_byteAt_0 8 rfl rfl)
theorem dX3_byteAt_9 : decode cX3_byteAt 9 = .ok (.getfield 31, 3) := dk_180 0 31 (dk_at dksX3_byteAt_0 9 rfl rfl)
theorem dX3_byteAt_12 : decode cX3_byteAt 12 = .ok (.iload_n 1, 1) := dk_27 (dk_at dksX3_byteAt_0 12 rfl rfl)
theorem dX3_byteAt_13 : decode cX3_byteAt 13 = .ok (.iaload, 1) := dk_46 (dk_at dksX3_byteAt_0 13 rfl rfl)
theorem dX3_byteAt_14 : decode cX3_byteAt 14 = .ok (.goto 4, 3) := dk_167 0 4 (dk_at dksX3_byteAt_0 14 rfl rfl)
theorem dX3_byteAt_17 : decode cX3_byteAt 17 = .ok (.iconst 0, 1) := dk_3 (dk_at dksX3_byteAt_0 17 rfl rfl)
theorem dX3_byteAt_18 : decode cX3_byteAt 18 = .ok (.ireturn, 1) := dk_172 (dk_at dksX3_byteAt_0 18 rfl rfl)
def dkwX3_isLetter_0 : List UInt8 := [26, 16, 97, 161, 0, 13, 26, 16, 122, 163, 0, 7, 4, 167, 0, 4, 3, 172]
abbrev dktX3_isLetter_0 : List UInt8 := dkwX3_isLetter_0 ++ []
theorem dksX3_isLetter_0 : cX3_isLetter.data.toList.drop 0 = dktX3_isLetter_0 := by decide +kernel
theorem dX3_isLetter_0 : decode cX3_isLetter 0 = .ok (.iload_n 0, 1) := dk_26 (dk_at dksX3_isLetter_0 0 rfl rfl)
theorem dX3_isLetter_1 : decode cX3_isLetter 1 = .ok (.bipush 97, 2) := dk_16 97 (dk_at dksX3_isLetter_0 1 rfl rfl)
theorem dX3_isLetter_3 : decode cX3_isLetter 3 = .ok (.if_icmp .lt 13, 3) := dk_161 0 13 (dk_at dksX3_isLetter_0 3 rfl rfl)
theorem dX3_isLetter_6 : decode cX3_isLetter 6 = .ok (.iload_n 0, 1) := dk_26 (dk_at dksX3_isLetter_0 6 rfl rfl)
theorem dX3_isLetter_7 : decode cX3_isLetter 7 = .ok (.bipush 122, 2) := dk_16 122 (dk_at dksX3_isLetter_0 7 rfl rfl)
theorem dX3_isLetter_9 : decode cX3_isLetter 9 = .ok (.if_icmp .gt 7, 3) := dk_163 0 7 (dk_at dksX3_isLetter_0 9 rfl rfl)
theorem dX3_isLetter_12 : decode cX3_isLetter 12 = .ok (.iconst 1, 1) := dk_4 (dk_at dksX3_isLetter_0 12 rfl rfl)
theorem dX3_isLetter_13 : decode cX3_isLetter 13 = .ok (.goto 4, 3) := dk_167 0 4 (dk_at dksX3_isLetter_0 13 rfl rfl)
theorem dX3_isLetter_16 : decode cX3_isLetter 16 = .ok (.iconst 0, 1) := dk_3 (dk_at dksX3_isLetter_0 16 rfl rfl)
theorem dX3_isLetter_17 : decode cX3_isLetter 17 = .ok (.ireturn, 1) := dk_172 (dk_at dksX3_isLetter_0 17 rfl rfl)
def dkwX3_isDigit_0 : List UInt8 := [26, 16, 48, 161, 0, 13, 26, 16, 57, 163, 0, 7, 4, 167, 0, 4, 3, 172]
abbrev dktX3_isDigit_0 : List UInt8 := dkwX3_isDigit_0 ++ []
theorem dksX3_isDigit_0 : cX3_isDigit.data.toList.drop 0 = dktX3_isDigit_0 := by decide +kernel
theorem dX3_isDigit_0 : decode cX3_isDigit 0 = .ok (.iload_n 0, 1) := dk_26 (dk_at dksX3_isDigit_0 0 rfl rfl)
theorem dX3_isDigit_1 : decode cX3_isDigit 1 = .ok (.bipush 48, 2) := dk_16 48 (dk_at dksX3_isDigit_0 1 rfl rfl)
theorem dX3_isDigit_3 : decode cX3_isDigit 3 = .ok (.if_icmp .lt 13, 3) := dk_161 0 13 (dk_at dksX3_isDigit_0 3 rfl rfl)
theorem dX3_isDigit_6 : decode cX3_isDigit 6 = .ok (.iload_n 0, 1) := dk_26 (dk_at dksX3_isDigit_0 6 rfl rfl)
theorem dX3_isDigit_7 : decode cX3_isDigit 7 = .ok (.bipush 57, 2) := dk_16 57 (dk_at dksX3_isDigit_0 7 rfl rfl)
theorem dX3_isDigit_9 : decode cX3_isDigit 9 = .ok (.if_icmp .gt 7, 3) := dk_163 0 7 (dk_at dksX3_isDigit_0 9 rfl rfl)
theorem dX3_isDigit_12 : decode cX3_isDigit 12 = .ok (.iconst 1, 1) := dk_4 (dk_at dksX3_isDigit_0 12 rfl rfl)
theorem dX3_isDigit_13 : decode cX3_isDigit 13 = .ok (.goto 4, 3) := dk_167 0 4 (dk_at dksX3_isDigit_0 13 rfl rfl)
theorem dX3_isDigit_16 : decode cX3_isDigit 16 = .ok (.iconst 0, 1) := dk_3 (dk_at dksX3_isDigit_0 16 rfl rfl)
theorem dX3_isDigit_17 : decode cX3_isDigit 17 = .ok (.ireturn, 1) := dk_172 (dk_at dksX3_isDigit_0 17 rfl rfl)
def dkwX3_isGood_0 : List UInt8 := [42, 180, 0, 187, 154, 0, 7, 4, 167, 0, 4, 3, 172]
abbrev dktX3_isGood_0 : List UInt8 := dkwX3_isGood_0 ++ []
theorem dksX3_isGood_0 : cX3_isGood.data.toList.drop 0 = dktX3_isGood_0 := by decide +kernel
theorem dX3_isGood_0 : decode cX3_isGood 0 = .ok (.aload_n 0, 1) := dk_42 (dk_at dksX3_isGood_0 0 rfl rfl)
theorem dX3_isGood_1 : decode cX3_isGood 1 = .ok (.getfield 187, 3) := dk_180 0 187 (dk_at dksX3_isGood_0 1 rfl rfl)
theorem dX3_isGood_4 : decode cX3_isGood 4 = .ok (.ifCond .ne 7, 3) := dk_154 0 7 (dk_at dksX3_isGood_0 4 rfl rfl)
theorem dX3_isGood_7 : decode cX3_isGood 7 = .ok (.iconst 1, 1) := dk_4 (dk_at dksX3_isGood_0 7 rfl rfl)
theorem dX3_isGood_8 : decode cX3_isGood 8 = .ok (.goto 4, 3) := dk_167 0 4 (dk_at dksX3_isGood_0 8 rfl rfl)
theorem dX3_isGood_11 : decode cX3_isGood 11 = .ok (.iconst 0, 1) := dk_3 (dk_at dksX3_isGood_0 11 rfl rfl)
theorem dX3_isGood_12 : decode cX3_isGood 12 = .ok (.ireturn, 1) := dk_172 (dk_at dksX3_isGood_0 12 rfl rfl)
def dkwX3_line_13 : List UInt8 := [4, 182, 0, 197, 42, 42, 180, 0, 164, 6, 160, 0, 7, 4, 167, 0, 4, 3, 182, 0, 222, 177]
abbrev dktX3_line_13 : List UInt8 := dkwX3_line_13 ++ []
def dkwX3_line_12 : List UInt8 := [89, 180, 0, 238, 4, 27, 120, 128, 181, 0, 238, 42, 180, 0, 56, 27, 28, 8, 100, 79, 167, 0, 8, 42]
abbrev dktX3_line_12 : List UInt8 := dkwX3_line_12 ++ dktX3_line_13
def dkwX3_line_11 : List UInt8 := [2, 61, 42, 28, 2, 159, 0, 7, 4, 167, 0, 4, 3, 182, 0, 222, 42, 182, 0, 190, 153, 0, 24, 42]
abbrev dktX3_line_11 : List UInt8 := dkwX3_line_11 ++ dktX3_line_12
def dkwX3_line_10 : List UInt8 := [167, 0, 4, 3, 182, 0, 222, 42, 182, 0, 190, 153, 0, 13, 42, 8, 16, 8, 182, 0, 218, 167, 0, 4]
abbrev dktX3_line_10 : List UInt8 := dkwX3_line_10 ++ dktX3_line_11
def dkwX3_line_9 : List UInt8 := [42, 180, 0, 238, 27, 122, 4, 126, 4, 160, 0, 8, 42, 8, 182, 0, 197, 42, 27, 2, 159, 0, 7, 4]
abbrev dktX3_line_9 : List UInt8 := dkwX3_line_9 ++ dktX3_line_10
def dkwX3_line_8 : List UInt8 := [16, 13, 182, 0, 203, 153, 0, 114, 42, 182, 0, 194, 42, 3, 6, 182, 0, 218, 60, 27, 2, 159, 0, 20]
abbrev dktX3_line_8 : List UInt8 := dkwX3_line_8 ++ dktX3_line_9
def dkwX3_line_7 : List UInt8 := [181, 0, 232, 167, 0, 144, 42, 16, 12, 182, 0, 203, 153, 0, 10, 42, 182, 0, 235, 167, 0, 128, 42]
abbrev dktX3_line_7 : List UInt8 := dkwX3_line_7 ++ dktX3_line_8
def dkwX3_line_6 : List UInt8 := [42, 180, 0, 209, 182, 0, 215, 79, 42, 182, 0, 190, 153, 0, 157, 42, 89, 180, 0, 232, 4, 96]
abbrev dktX3_line_6 : List UInt8 := dkwX3_line_6 ++ dktX3_line_7
def dkwX3_line_5 : List UInt8 := [182, 0, 197, 42, 182, 0, 190, 154, 0, 4, 177, 42, 182, 0, 194, 42, 180, 0, 53, 42, 180, 0, 232, 42]
abbrev dktX3_line_5 : List UInt8 := dkwX3_line_5 ++ dktX3_line_6
def dkwX3_line_4 : List UInt8 := [167, 0, 215, 42, 16, 11, 182, 0, 203, 153, 0, 65, 42, 180, 0, 232, 6, 160, 0, 8, 42, 5]
abbrev dktX3_line_4 : List UInt8 := dkwX3_line_4 ++ dktX3_line_5
def dkwX3_line_3 : List UInt8 := [180, 0, 209, 4, 96, 181, 0, 209, 167, 0, 231, 42, 16, 10, 182, 0, 203, 153, 0, 10, 42, 182, 0, 229]
abbrev dktX3_line_3 : List UInt8 := dkwX3_line_3 ++ dktX3_line_4
def dkwX3_line_2 : List UInt8 := [182, 0, 226, 79, 42, 180, 0, 44, 42, 180, 0, 209, 2, 79, 42, 182, 0, 190, 153, 0, 244, 42, 89]
abbrev dktX3_line_2 : List UInt8 := dkwX3_line_2 ++ dktX3_line_3
def dkwX3_line_1 : List UInt8 := [182, 0, 190, 154, 0, 4, 177, 42, 182, 0, 194, 42, 180, 0, 41, 42, 180, 0, 209, 42, 3, 16, 99]
abbrev dktX3_line_1 : List UInt8 := dkwX3_line_1 ++ dktX3_line_2
def dkwX3_line_0 : List UInt8 := [42, 16, 9, 182, 0, 203, 153, 0, 75, 42, 180, 0, 209, 16, 8, 160, 0, 8, 42, 5, 182, 0, 197, 42]
abbrev dktX3_line_0 : List UInt8 := dkwX3_line_0 ++ dktX3_line_1
theorem dksX3_line_0 : cX3_line.data.toList.drop 0 = dktX3_line_0 := by decide +kernel
theorem dksX3_line_1 : cX3_line.data.toList.drop 24 = dktX3_line_1 := dk_seg dksX3_line_0 24 rfl rfl
theorem dksX3_line_2 : cX3_line.data.toList.drop 47 = dktX3_line_2 := dk_seg dksX3_line_1 23 rfl rfl
theorem dksX3_line_3 : cX3_line.data.toList.drop 70 = dktX3_line_3 := dk_seg dksX3_line_2 23 rfl rfl
theorem dksX3_line_4 : cX3_line.data.toList.drop 94 = dktX3_line_4 := dk_seg dksX3_line_3 24 rfl rfl
theorem dksX3_line_5 : cX3_line.data.toList.drop 116 = dktX3_line_5 := dk_seg dksX3_line_4 22 rfl rfl
theorem dksX3_line_6 : cX3_line.data.toList.drop 140 = dktX3_line_6 := dk_seg dksX3_line_5 24 rfl rfl
theorem dksX3_line_7 : cX3_line.data.toList.drop 162 = dktX3_line_7 := dk_seg dksX3_line_6 22 rfl rfl
theorem dksX3_line_8 : cX3_line.data.toList.drop 185 = dktX3_line_8 := dk_seg dksX3_line_7 23 rfl rfl
theorem dksX3_line_9 : cX3_line.data.toList.drop 209 = dktX3_line_9 := dk_seg dksX3_line_8 24 rfl rfl
theorem dksX3_line_10 : cX3_line.data.toList.drop 233 = dktX3_line_10 := dk_seg dksX3_line_9 24 rfl rfl
theorem dksX3_line_11 : cX3_line.data.toList.drop 257 = dktX3_line_11 := dk_seg dksX3_line_10 24 rfl rfl
theorem dksX3_line_12 : cX3_line.data.toList.drop 281 = dktX3_line_12 := dk_seg dksX3_line_11 24 rfl rfl
theorem dksX3_line_13 : cX3_line.data.toList.drop 305 = dktX3_line_13 := dk_seg dksX3_line_12 24 rfl rfl
theorem dX3_line_0 : decode cX3_line 0 = .ok (.aload_n 0, 1) := dk_42 (dk_at dksX3_line_0 0 rfl rfl)
theorem dX3_line_1 : decode cX3_line 1 = .ok (.bipush 9, 2) := dk_16 9 (dk_at dksX3_line_0 1 rfl rfl)
theorem dX3_line_3 : decode cX3_line 3 = .ok (.invokevirtual 203, 3) := dk_182 0 203 (dk_at dksX3_line_0 3 rfl rfl)
theorem dX3_line_6 : decode cX3_line 6 = .ok (.ifCond .eq 75, 3) := dk_153 0 75 (dk_at dksX3_line_0 6 rfl rfl)
theorem dX3_line_9 : decode cX3_line 9 = .ok (.aload_n 0, 1) := dk_42 (dk_at dksX3_line_0 9 rfl rfl)
theorem dX3_line_10 : decode cX3_line 10 = .ok (.getfield 209, 3) := dk_180 0 209 (dk_at dksX3_line_0 10 rfl rfl)
theorem dX3_line_13 : decode cX3_line 13 = .ok (.bipush 8, 2) := dk_16 8 (dk_at dksX3_line_0 13 rfl rfl)
theorem dX3_line_15 : decode cX3_line 15 = .ok (.if_icmp .ne 8, 3) := dk_160 0 8 (dk_at dksX3_line_0 15 rfl rfl)
theorem dX3_line_18 : decode cX3_line 18 = .ok (.aload_n 0, 1) := dk_42 (dk_at dksX3_line_0 18 rfl rfl)
theorem dX3_line_19 : decode cX3_line 19 = .ok (.iconst 2, 1) := dk_5 (dk_at dksX3_line_0 19 rfl rfl)
theorem dX3_line_20 : decode cX3_line 20 = .ok (.invokevirtual 197, 3) := dk_182 0 197 (dk_at dksX3_line_0 20 rfl rfl)
theorem dX3_line_23 : decode cX3_line 23 = .ok (.aload_n 0, 1) := dk_42 (dk_at dksX3_line_0 23 rfl rfl)
theorem dX3_line_24 : decode cX3_line 24 = .ok (.invokevirtual 190, 3) := dk_182 0 190 (dk_at dksX3_line_1 0 rfl rfl)
theorem dX3_line_27 : decode cX3_line 27 = .ok (.ifCond .ne 4, 3) := dk_154 0 4 (dk_at dksX3_line_1 3 rfl rfl)
theorem dX3_line_30 : decode cX3_line 30 = .ok (.return_, 1) := dk_177 (dk_at dksX3_line_1 6 rfl rfl)
theorem dX3_line_31 : decode cX3_line 31 = .ok (.aload_n 0, 1) := dk_42 (dk_at dksX3_line_1 7 rfl rfl)
theorem dX3_line_32 : decode cX3_line 32 = .ok (.invokevirtual 194, 3) := dk_182 0 194 (dk_at dksX3_line_1 8 rfl rfl)
theorem dX3_line_35 : decode cX3_line 35 = .ok (.aload_n 0, 1) := dk_42 (dk_at dksX3_line_1 11 rfl rfl)
theorem dX3_line_36 : decode cX3_line 36 = .ok (.getfield 41, 3) := dk_180 0 41 (dk_at dksX3_line_1 12 rfl rfl)
theorem dX3_line_39 : decode cX3_line 39 = .ok (.aload_n 0, 1) := dk_42 (dk_at dksX3_line_1 15 rfl rfl)
theorem dX3_line_40 : decode cX3_line 40 = .ok (.getfield 209, 3) := dk_180 0 209 (dk_at dksX3_line_1 16 rfl rfl)
theorem dX3_line_43 : decode cX3_line 43 = .ok (.aload_n 0, 1) := dk_42 (dk_at dksX3_line_1 19 rfl rfl)
theorem dX3_line_44 : decode cX3_line 44 = .ok (.iconst 0, 1) := dk_3 (dk_at dksX3_line_1 20 rfl rfl)
theorem dX3_line_45 : decode cX3_line 45 = .ok (.bipush 99, 2) := dk_16 99 (dk_at dksX3_line_1 21 rfl rfl)
theorem dX3_line_47 : decode cX3_line 47 = .ok (.invokevirtual 226, 3) := dk_182 0 226 (dk_at dksX3_line_2 0 rfl rfl)
theorem dX3_line_50 : decode cX3_line 50 = .ok (.iastore, 1) := dk_79 (dk_at dksX3_line_2 3 rfl rfl)
theorem dX3_line_51 : decode cX3_line 51 = .ok (.aload_n 0, 1) := dk_42 (dk_at dksX3_line_2 4 rfl rfl)
theorem dX3_line_52 : decode cX3_line 52 = .ok (.getfield 44, 3) := dk_180 0 44 (dk_at dksX3_line_2 5 rfl rfl)
theorem dX3_line_55 : decode cX3_line 55 = .ok (.aload_n 0, 1) := dk_42 (dk_at dksX3_line_2 8 rfl rfl)
theorem dX3_line_56 : decode cX3_line 56 = .ok (.getfield 209, 3) := dk_180 0 209 (dk_at dksX3_line_2 9 rfl rfl)
theorem dX3_line_59 : decode cX3_line 59 = .ok (.iconst (-1), 1) := dk_2 (dk_at dksX3_line_2 12 rfl rfl)
theorem dX3_line_60 : decode cX3_line 60 = .ok (.iastore, 1) := dk_79 (dk_at dksX3_line_2 13 rfl rfl)
theorem dX3_line_61 : decode cX3_line 61 = .ok (.aload_n 0, 1) := dk_42 (dk_at dksX3_line_2 14 rfl rfl)
theorem dX3_line_62 : decode cX3_line 62 = .ok (.invokevirtual 190, 3) := dk_182 0 190 (dk_at dksX3_line_2 15 rfl rfl)
theorem dX3_line_65 : decode cX3_line 65 = .ok (.ifCond .eq 244, 3) := dk_153 0 244 (dk_at dksX3_line_2 18 rfl rfl)
theorem dX3_line_68 : decode cX3_line 68 = .ok (.aload_n 0, 1) := dk_42 (dk_at dksX3_line_2 21 rfl rfl)
theorem dX3_line_69 : decode cX3_line 69 = .ok (.dup, 1) := dk_89 (dk_at dksX3_line_2 22 rfl rfl)
theorem dX3_line_70 : decode cX3_line 70 = .ok (.getfield 209, 3) := dk_180 0 209 (dk_at dksX3_line_3 0 rfl rfl)
theorem dX3_line_73 : decode cX3_line 73 = .ok (.iconst 1, 1) := dk_4 (dk_at dksX3_line_3 3 rfl rfl)
theorem dX3_line_74 : decode cX3_line 74 = .ok (.iadd, 1) := dk_96 (dk_at dksX3_line_3 4 rfl rfl)
theorem dX3_line_75 : decode cX3_line 75 = .ok (.putfield 209, 3) := dk_181 0 209 (dk_at dksX3_line_3 5 rfl rfl)
theorem dX3_line_78 : decode cX3_line 78 = .ok (.goto 231, 3) := dk_167 0 231 (dk_at dksX3_line_3 8 rfl rfl)
theorem dX3_line_81 : decode cX3_line 81 = .ok (.aload_n 0, 1) := dk_42 (dk_at dksX3_line_3 11 rfl rfl)
theorem dX3_line_82 : decode cX3_line 82 = .ok (.bipush 10, 2) := dk_16 10 (dk_at dksX3_line_3 12 rfl rfl)
theorem dX3_line_84 : decode cX3_line 84 = .ok (.invokevirtual 203, 3) := dk_182 0 203 (dk_at dksX3_line_3 14 rfl rfl)
theorem dX3_line_87 : decode cX3_line 87 = .ok (.ifCond .eq 10, 3) := dk_153 0 10 (dk_at dksX3_line_3 17 rfl rfl)
theorem dX3_line_90 : decode cX3_line 90 = .ok (.aload_n 0, 1) := dk_42 (dk_at dksX3_line_3 20 rfl rfl)
theorem dX3_line_91 : decode cX3_line 91 = .ok (.invokevirtual 229, 3) := dk_182 0 229 (dk_at dksX3_line_3 21 rfl rfl)
theorem dX3_line_94 : decode cX3_line 94 = .ok (.goto 215, 3) := dk_167 0 215 (dk_at dksX3_line_4 0 rfl rfl)
theorem dX3_line_97 : decode cX3_line 97 = .ok (.aload_n 0, 1) := dk_42 (dk_at dksX3_line_4 3 rfl rfl)
theorem dX3_line_98 : decode cX3_line 98 = .ok (.bipush 11, 2) := dk_16 11 (dk_at dksX3_line_4 4 rfl rfl)
theorem dX3_line_100 : decode cX3_line 100 = .ok (.invokevirtual 203, 3) := dk_182 0 203 (dk_at dksX3_line_4 6 rfl rfl)
theorem dX3_line_103 : decode cX3_line 103 = .ok (.ifCond .eq 65, 3) := dk_153 0 65 (dk_at dksX3_line_4 9 rfl rfl)
theorem dX3_line_106 : decode cX3_line 106 = .ok (.aload_n 0, 1) := dk_42 (dk_at dksX3_line_4 12 rfl rfl)
theorem dX3_line_107 : decode cX3_line 107 = .ok (.getfield 232, 3) := dk_180 0 232 (dk_at dksX3_line_4 13 rfl rfl)
theorem dX3_line_110 : decode cX3_line 110 = .ok (.iconst 3, 1) := dk_6 (dk_at dksX3_line_4 16 rfl rfl)
theorem dX3_line_111 : decode cX3_line 111 = .ok (.if_icmp .ne 8, 3) := dk_160 0 8 (dk_at dksX3_line_4 17 rfl rfl)
theorem dX3_line_114 : decode cX3_line 114 = .ok (.aload_n 0, 1) := dk_42 (dk_at dksX3_line_4 20 rfl rfl)
theorem dX3_line_115 : decode cX3_line 115 = .ok (.iconst 2, 1) := dk_5 (dk_at dksX3_line_4 21 rfl rfl)
theorem dX3_line_116 : decode cX3_line 116 = .ok (.invokevirtual 197, 3) := dk_182 0 197 (dk_at dksX3_line_5 0 rfl rfl)
theorem dX3_line_119 : decode cX3_line 119 = .ok (.aload_n 0, 1) := dk_42 (dk_at dksX3_line_5 3 rfl rfl)
theorem dX3_line_120 : decode cX3_line 120 = .ok (.invokevirtual 190, 3) := dk_182 0 190 (dk_at dksX3_line_5 4 rfl rfl)
theorem dX3_line_123 : decode cX3_line 123 = .ok (.ifCond .ne 4, 3) := dk_154 0 4 (dk_at dksX3_line_5 7 rfl rfl)
theorem dX3_line_126 : decode cX3_line 126 = .ok (.return_, 1) := dk_177 (dk_at dksX3_line_5 10 rfl rfl)
theorem dX3_line_127 : decode cX3_line 127 = .ok (.aload_n 0, 1) := dk_42 (dk_at dksX3_line_5 11 rfl rfl)
theorem dX3_line_128 : decode cX3_line 128 = .ok (.invokevirtual 194, 3) := dk_182 0 194 (dk_at dksX3_line_5 12 rfl rfl)
theorem dX3_line_131 : decode cX3_line 131 = .ok (.aload_n 0, 1) := dk_42 (dk_at dksX3_line_5 15 rfl rfl)
theorem dX3_line_132 : decode cX3_line 132 = .ok (.getfield 53, 3) := dk_180 0 53 (dk_at dksX3_line_5 16 rfl rfl)
theorem dX3_line_135 : decode cX3_line 135 = .ok (.aload_n 0, 1) := dk_42 (dk_at dksX3_line_5 19 rfl rfl)
theorem dX3_line_136 : decode cX3_line 136 = .ok (.getfield 232, 3) := dk_180 0 232 (dk_at dksX3_line_5 20 rfl rfl)
theorem dX3_line_139 : decode cX3_line 139 = .ok (.aload_n 0, 1) := dk_42 (dk_at dksX3_line_5 23 rfl rfl)
theorem dX3_line_140 : decode cX3_line 140 = .ok (.aload_n 0, 1) := dk_42 (dk_at dksX3_line_6 0 rfl rfl)
theorem dX3_line_141 : decode cX3_line 141 = .ok (.getfield 209, 3) := dk_180 0 209 (dk_at dksX3_line_6 1 rfl rfl)
theorem dX3_line_144 : decode cX3_line 144 = .ok (.invokevirtual 215, 3) := dk_182 0 215 (dk_at dksX3_line_6 4 rfl rfl)
theorem dX3_line_147 : decode cX3_line 147 = .ok (.iastore, 1) := dk_79 (dk_at dksX3_line_6 7 rfl rfl)
theorem dX3_line_148 : decode cX3_line 148 = .ok (.aload_n 0, 1) := dk_42 (dk_at dksX3_line_6 8 rfl rfl)
theorem dX3_line_149 : decode cX3_line 149 = .ok (.invokevirtual 190, 3) := dk_182 0 190 (dk_at dksX3_line_6 9 rfl rfl)
theorem dX3_line_152 : decode cX3_line 152 = .ok (.ifCond .eq 157, 3) := dk_153 0 157 (dk_at dksX3_line_6 12 rfl rfl)
theorem dX3_line_155 : decode cX3_line 155 = .ok (.aload_n 0, 1) := dk_42 (dk_at dksX3_line_6 15 rfl rfl)
theorem dX3_line_156 : decode cX3_line 156 = .ok (.dup, 1) := dk_89 (dk_at dksX3_line_6 16 rfl rfl)
theorem dX3_line_157 : decode cX3_line 157 = .ok (.getfield 232, 3) := dk_180 0 232 (dk_at dksX3_line_6 17 rfl rfl)
theorem dX3_line_160 : decode cX3_line 160 = .ok (.iconst 1, 1) := dk_4 (dk_at dksX3_line_6 20 rfl rfl)
theorem dX3_line_161 : decode cX3_line 161 = .ok (.iadd, 1) := dk_96 (dk_at dksX3_line_6 21 rfl rfl)
theorem dX3_line_162 : decode cX3_line 162 = .ok (.putfield 232, 3) := dk_181 0 232 (dk_at dksX3_line_7 0 rfl rfl)
theorem dX3_line_165 : decode cX3_line 165 = .ok (.goto 144, 3) := dk_167 0 144 (dk_at dksX3_line_7 3 rfl rfl)
theorem dX3_line_168 : decode cX3_line 168 = .ok (.aload_n 0, 1) := dk_42 (dk_at dksX3_line_7 6 rfl rfl)
theorem dX3_line_169 : decode cX3_line 169 = .ok (.bipush 12, 2) := dk_16 12 (dk_at dksX3_line_7 7 rfl rfl)
theorem dX3_line_171 : decode cX3_line 171 = .ok (.invokevirtual 203, 3) := dk_182 0 203 (dk_at dksX3_line_7 9 rfl rfl)
theorem dX3_line_174 : decode cX3_line 174 = .ok (.ifCond .eq 10, 3) := dk_153 0 10 (dk_at dksX3_line_7 12 rfl rfl)
theorem dX3_line_177 : decode cX3_line 177 = .ok (.aload_n 0, 1) := dk_42 (dk_at dksX3_line_7 15 rfl rfl)
theorem dX3_line_178 : decode cX3_line 178 = .ok (.invokevirtual 235, 3) := dk_182 0 235 (dk_at dksX3_line_7 16 rfl rfl)
theorem dX3_line_181 : decode cX3_line 181 = .ok (.goto 128, 3) := dk_167 0 128 (dk_at dksX3_line_7 19 rfl rfl)
theorem dX3_line_184 : decode cX3_line 184 = .ok (.aload_n 0, 1) := dk_42 (dk_at dksX3_line_7 22 rfl rfl)
theorem dX3_line_185 : decode cX3_line 185 = .ok (.bipush 13, 2) := dk_16 13 (dk_at dksX3_line_8 0 rfl rfl)
theorem dX3_line_187 : decode cX3_line 187 = .ok (.invokevirtual 203, 3) := dk_182 0 203 (dk_at dksX3_line_8 2 rfl rfl)
theorem dX3_line_190 : decode cX3_line 190 = .ok (.ifCond .eq 114, 3) := dk_153 0 114 (dk_at dksX3_line_8 5 rfl rfl)
theorem dX3_line_193 : decode cX3_line 193 = .ok (.aload_n 0, 1) := dk_42 (dk_at dksX3_line_8 8 rfl rfl)
theorem dX3_line_194 : decode cX3_line 194 = .ok (.invokevirtual 194, 3) := dk_182 0 194 (dk_at dksX3_line_8 9 rfl rfl)
theorem dX3_line_197 : decode cX3_line 197 = .ok (.aload_n 0, 1) := dk_42 (dk_at dksX3_line_8 12 rfl rfl)
theorem dX3_line_198 : decode cX3_line 198 = .ok (.iconst 0, 1) := dk_3 (dk_at dksX3_line_8 13 rfl rfl)
theorem dX3_line_199 : decode cX3_line 199 = .ok (.iconst 3, 1) := dk_6 (dk_at dksX3_line_8 14 rfl rfl)
theorem dX3_line_200 : decode cX3_line 200 = .ok (.invokevirtual 218, 3) := dk_182 0 218 (dk_at dksX3_line_8 15 rfl rfl)
theorem dX3_line_203 : decode cX3_line 203 = .ok (.istore_n 1, 1) := dk_60 (dk_at dksX3_line_8 18 rfl rfl)
theorem dX3_line_204 : decode cX3_line 204 = .ok (.iload_n 1, 1) := dk_27 (dk_at dksX3_line_8 19 rfl rfl)
theorem dX3_line_205 : decode cX3_line 205 = .ok (.iconst (-1), 1) := dk_2 (dk_at dksX3_line_8 20 rfl rfl)
theorem dX3_line_206 : decode cX3_line 206 = .ok (.if_icmp .eq 20, 3) := dk_159 0 20 (dk_at dksX3_line_8 21 rfl rfl)
theorem dX3_line_209 : decode cX3_line 209 = .ok (.aload_n 0, 1) := dk_42 (dk_at dksX3_line_9 0 rfl rfl)
theorem dX3_line_210 : decode cX3_line 210 = .ok (.getfield 238, 3) := dk_180 0 238 (dk_at dksX3_line_9 1 rfl rfl)
theorem dX3_line_213 : decode cX3_line 213 = .ok (.iload_n 1, 1) := dk_27 (dk_at dksX3_line_9 4 rfl rfl)
theorem dX3_line_214 : decode cX3_line 214 = .ok (.ishr, 1) := dk_122 (dk_at dksX3_line_9 5 rfl rfl)
theorem dX3_line_215 : decode cX3_line 215 = .ok (.iconst 1, 1) := dk_4 (dk_at dksX3_line_9 6 rfl rfl)
theorem dX3_line_216 : decode cX3_line 216 = .ok (.iand, 1) := dk_126 (dk_at dksX3_line_9 7 rfl rfl)
theorem dX3_line_217 : decode cX3_line 217 = .ok (.iconst 1, 1) := dk_4 (dk_at dksX3_line_9 8 rfl rfl)
theorem dX3_line_218 : decode cX3_line 218 = .ok (.if_icmp .ne 8, 3) := dk_160 0 8 (dk_at dksX3_line_9 9 rfl rfl)
theorem dX3_line_221 : decode cX3_line 221 = .ok (.aload_n 0, 1) := dk_42 (dk_at dksX3_line_9 12 rfl rfl)
theorem dX3_line_222 : decode cX3_line 222 = .ok (.iconst 5, 1) := dk_8 (dk_at dksX3_line_9 13 rfl rfl)
theorem dX3_line_223 : decode cX3_line 223 = .ok (.invokevirtual 197, 3) := dk_182 0 197 (dk_at dksX3_line_9 14 rfl rfl)
theorem dX3_line_226 : decode cX3_line 226 = .ok (.aload_n 0, 1) := dk_42 (dk_at dksX3_line_9 17 rfl rfl)
theorem dX3_line_227 : decode cX3_line 227 = .ok (.iload_n 1, 1) := dk_27 (dk_at dksX3_line_9 18 rfl rfl)
theorem dX3_line_228 : decode cX3_line 228 = .ok (.iconst (-1), 1) := dk_2 (dk_at dksX3_line_9 19 rfl rfl)
theorem dX3_line_229 : decode cX3_line 229 = .ok (.if_icmp .eq 7, 3) := dk_159 0 7 (dk_at dksX3_line_9 20 rfl rfl)
theorem dX3_line_232 : decode cX3_line 232 = .ok (.iconst 1, 1) := dk_4 (dk_at dksX3_line_9 23 rfl rfl)
theorem dX3_line_233 : decode cX3_line 233 = .ok (.goto 4, 3) := dk_167 0 4 (dk_at dksX3_line_10 0 rfl rfl)
theorem dX3_line_236 : decode cX3_line 236 = .ok (.iconst 0, 1) := dk_3 (dk_at dksX3_line_10 3 rfl rfl)
theorem dX3_line_237 : decode cX3_line 237 = .ok (.invokevirtual 222, 3) := dk_182 0 222 (dk_at dksX3_line_10 4 rfl rfl)
theorem dX3_line_240 : decode cX3_line 240 = .ok (.aload_n 0, 1) := dk_42 (dk_at dksX3_line_10 7 rfl rfl)
theorem dX3_line_241 : decode cX3_line 241 = .ok (.invokevirtual 190, 3) := dk_182 0 190 (dk_at dksX3_line_10 8 rfl rfl)
theorem dX3_line_244 : decode cX3_line 244 = .ok (.ifCond .eq 13, 3) := dk_153 0 13 (dk_at dksX3_line_10 11 rfl rfl)
theorem dX3_line_247 : decode cX3_line 247 = .ok (.aload_n 0, 1) := dk_42 (dk_at dksX3_line_10 14 rfl rfl)
theorem dX3_line_248 : decode cX3_line 248 = .ok (.iconst 5, 1) := dk_8 (dk_at dksX3_line_10 15 rfl rfl)
theorem dX3_line_249 : decode cX3_line 249 = .ok (.bipush 8, 2) := dk_16 8 (dk_at dksX3_line_10 16 rfl rfl)
theorem dX3_line_251 : decode cX3_line 251 = .ok (.invokevirtual 218, 3) := dk_182 0 218 (dk_at dksX3_line_10 18 rfl rfl)
theorem dX3_line_254 : decode cX3_line 254 = .ok (.goto 4, 3) := dk_167 0 4 (dk_at dksX3_line_10 21 rfl rfl)
theorem dX3_line_257 : decode cX3_line 257 = .ok (.iconst (-1), 1) := dk_2 (dk_at dksX3_line_11 0 rfl rfl)
theorem dX3_line_258 : decode cX3_line 258 = .ok (.istore_n 2, 1) := dk_61 (dk_at dksX3_line_11 1 rfl rfl)
theorem dX3_line_259 : decode cX3_line 259 = .ok (.aload_n 0, 1) := dk_42 (dk_at dksX3_line_11 2 rfl rfl)
theorem dX3_line_260 : decode cX3_line 260 = .ok (.iload_n 2, 1) := dk_28 (dk_at dksX3_line_11 3 rfl rfl)
theorem dX3_line_261 : decode cX3_line 261 = .ok (.iconst (-1), 1) := dk_2 (dk_at dksX3_line_11 4 rfl rfl)
theorem dX3_line_262 : decode cX3_line 262 = .ok (.if_icmp .eq 7, 3) := dk_159 0 7 (dk_at dksX3_line_11 5 rfl rfl)
theorem dX3_line_265 : decode cX3_line 265 = .ok (.iconst 1, 1) := dk_4 (dk_at dksX3_line_11 8 rfl rfl)
theorem dX3_line_266 : decode cX3_line 266 = .ok (.goto 4, 3) := dk_167 0 4 (dk_at dksX3_line_11 9 rfl rfl)
theorem dX3_line_269 : decode cX3_line 269 = .ok (.iconst 0, 1) := dk_3 (dk_at dksX3_line_11 12 rfl rfl)
theorem dX3_line_270 : decode cX3_line 270 = .ok (.invokevirtual 222, 3) := dk_182 0 222 (dk_at dksX3_line_11 13 rfl rfl)
theorem dX3_line_273 : decode cX3_line 273 = .ok (.aload_n 0, 1) := dk_42 (dk_at dksX3_line_11 16 rfl rfl)
theorem dX3_line_274 : decode cX3_line 274 = .ok (.invokevirtual 190, 3) := dk_182 0 190 (dk_at dksX3_line_11 17 rfl rfl)
theorem dX3_line_277 : decode cX3_line 277 = .ok (.ifCond .eq 24, 3) := dk_153 0 24 (dk_at dksX3_line_11 20 rfl rfl)
theorem dX3_line_280 : decode cX3_line 280 = .ok (.aload_n 0, 1) := dk_42 (dk_at dksX3_line_11 23 rfl rfl)
theorem dX3_line_281 : decode cX3_line 281 = .ok (.dup, 1) := dk_89 (dk_at dksX3_line_12 0 rfl rfl)
theorem dX3_line_282 : decode cX3_line 282 = .ok (.getfield 238, 3) := dk_180 0 238 (dk_at dksX3_line_12 1 rfl rfl)
theorem dX3_line_285 : decode cX3_line 285 = .ok (.iconst 1, 1) := dk_4 (dk_at dksX3_line_12 4 rfl rfl)
theorem dX3_line_286 : decode cX3_line 286 = .ok (.iload_n 1, 1) := dk_27 (dk_at dksX3_line_12 5 rfl rfl)
theorem dX3_line_287 : decode cX3_line 287 = .ok (.ishl, 1) := dk_120 (dk_at dksX3_line_12 6 rfl rfl)
theorem dX3_line_288 : decode cX3_line 288 = .ok (.ior, 1) := dk_128 (dk_at dksX3_line_12 7 rfl rfl)
theorem dX3_line_289 : decode cX3_line 289 = .ok (.putfield 238, 3) := dk_181 0 238 (dk_at dksX3_line_12 8 rfl rfl)
theorem dX3_line_292 : decode cX3_line 292 = .ok (.aload_n 0, 1) := dk_42 (dk_at dksX3_line_12 11 rfl rfl)
theorem dX3_line_293 : decode cX3_line 293 = .ok (.getfield 56, 3) := dk_180 0 56 (dk_at dksX3_line_12 12 rfl rfl)
theorem dX3_line_296 : decode cX3_line 296 = .ok (.iload_n 1, 1) := dk_27 (dk_at dksX3_line_12 15 rfl rfl)
theorem dX3_line_297 : decode cX3_line 297 = .ok (.iload_n 2, 1) := dk_28 (dk_at dksX3_line_12 16 rfl rfl)
theorem dX3_line_298 : decode cX3_line 298 = .ok (.iconst 5, 1) := dk_8 (dk_at dksX3_line_12 17 rfl rfl)
theorem dX3_line_299 : decode cX3_line 299 = .ok (.isub, 1) := dk_100 (dk_at dksX3_line_12 18 rfl rfl)
theorem dX3_line_300 : decode cX3_line 300 = .ok (.iastore, 1) := dk_79 (dk_at dksX3_line_12 19 rfl rfl)
theorem dX3_line_301 : decode cX3_line 301 = .ok (.goto 8, 3) := dk_167 0 8 (dk_at dksX3_line_12 20 rfl rfl)
theorem dX3_line_304 : decode cX3_line 304 = .ok (.aload_n 0, 1) := dk_42 (dk_at dksX3_line_12 23 rfl rfl)
theorem dX3_line_305 : decode cX3_line 305 = .ok (.iconst 1, 1) := dk_4 (dk_at dksX3_line_13 0 rfl rfl)
theorem dX3_line_306 : decode cX3_line 306 = .ok (.invokevirtual 197, 3) := dk_182 0 197 (dk_at dksX3_line_13 1 rfl rfl)
theorem dX3_line_309 : decode cX3_line 309 = .ok (.aload_n 0, 1) := dk_42 (dk_at dksX3_line_13 4 rfl rfl)
theorem dX3_line_310 : decode cX3_line 310 = .ok (.aload_n 0, 1) := dk_42 (dk_at dksX3_line_13 5 rfl rfl)
theorem dX3_line_311 : decode cX3_line 311 = .ok (.getfield 164, 3) := dk_180 0 164 (dk_at dksX3_line_13 6 rfl rfl)
theorem dX3_line_314 : decode cX3_line 314 = .ok (.iconst 3, 1) := dk_6 (dk_at dksX3_line_13 9 rfl rfl)
theorem dX3_line_315 : decode cX3_line 315 = .ok (.if_icmp .ne 7, 3) := dk_160 0 7 (dk_at dksX3_line_13 10 rfl rfl)
theorem dX3_line_318 : decode cX3_line 318 = .ok (.iconst 1, 1) := dk_4 (dk_at dksX3_line_13 13 rfl rfl)
theorem dX3_line_319 : decode cX3_line 319 = .ok (.goto 4, 3) := dk_167 0 4 (dk_at dksX3_line_13 14 rfl rfl)
theorem dX3_line_322 : decode cX3_line 322 = .ok (.iconst 0, 1) := dk_3 (dk_at dksX3_line_13 17 rfl rfl)
theorem dX3_line_323 : decode cX3_line 323 = .ok (.invokevirtual 222, 3) := dk_182 0 222 (dk_at dksX3_line_13 18 rfl rfl)
theorem dX3_line_326 : decode cX3_line 326 = .ok (.return_, 1) := dk_177 (dk_at dksX3_line_13 21 rfl rfl)
def dkwX3_is_1 : List UInt8 := [184, 0, 183, 148, 154, 0, 7, 4, 167, 0, 4, 3, 172]
abbrev dktX3_is_1 : List UInt8 := dkwX3_is_1 ++ []
def dkwX3_is_0 : List UInt8 := [42, 180, 0, 164, 4, 160, 0, 28, 42, 180, 0, 174, 16, 7, 162, 0, 19, 42, 180, 0, 157, 27]
abbrev dktX3_is_0 : List UInt8 := dkwX3_is_0 ++ dktX3_is_1
theorem dksX3_is_0 : cX3_is.data.toList.drop 0 = dktX3_is_0 := by decide +kernel
theorem dksX3_is_1 : cX3_is.data.toList.drop 22 = dktX3_is_1 := dk_seg dksX3_is_0 22 rfl rfl
theorem dX3_is_0 : decode cX3_is 0 = .ok (.aload_n 0, 1) := dk_42 (dk_at dksX3_is_0 0 rfl rfl)
theorem dX3_is_1 : decode cX3_is 1 = .ok (.getfield 164, 3) := dk_180 0 164 (dk_at dksX3_is_0 1 rfl rfl)
theorem dX3_is_4 : decode cX3_is 4 = .ok (.iconst 1, 1) := dk_4 (dk_at dksX3_is_0 4 rfl rfl)
theorem dX3_is_5 : decode cX3_is 5 = .ok (.if_icmp .ne 28, 3) := dk_160 0 28 (dk_at dksX3_is_0 5 rfl rfl)
theorem dX3_is_8 : decode cX3_is 8 = .ok (.aload_n 0, 1) := dk_42 (dk_at dksX3_is_0 8 rfl rfl)
theorem dX3_is_9 : decode cX3_is 9 = .ok (.getfield 174, 3) := dk_180 0 174 (dk_at dksX3_is_0 9 rfl rfl)
theorem dX3_is_12 : decode cX3_is 12 = .ok (.bipush 7, 2) := dk_16 7 (dk_at dksX3_is_0 12 rfl rfl)
theorem dX3_is_14 : decode cX3_is 14 = .ok (.if_icmp .ge 19, 3) := dk_162 0 19 (dk_at dksX3_is_0 14 rfl rfl)
theorem dX3_is_17 : decode cX3_is 17 = .ok (.aload_n 0, 1) := dk_42 (dk_at dksX3_is_0 17 rfl rfl)
theorem dX3_is_18 : decode cX3_is 18 = .ok (.getfield 157, 3) := dk_180 0 157 (dk_at dksX3_is_0 18 rfl rfl)
theorem dX3_is_21 : decode cX3_is 21 = .ok (.iload_n 1, 1) := dk_27 (dk_at dksX3_is_0 21 rfl rfl)
theorem dX3_is_22 : decode cX3_is 22 = .ok (.invokestatic 183, 3) := dk_184 0 183 (dk_at dksX3_is_1 0 rfl rfl)
theorem dX3_is_25 : decode cX3_is 25 = .ok (.lcmp, 1) := dk_148 (dk_at dksX3_is_1 3 rfl rfl)
theorem dX3_is_26 : decode cX3_is 26 = .ok (.ifCond .ne 7, 3) := dk_154 0 7 (dk_at dksX3_is_1 4 rfl rfl)
theorem dX3_is_29 : decode cX3_is 29 = .ok (.iconst 1, 1) := dk_4 (dk_at dksX3_is_1 7 rfl rfl)
theorem dX3_is_30 : decode cX3_is 30 = .ok (.goto 4, 3) := dk_167 0 4 (dk_at dksX3_is_1 8 rfl rfl)
theorem dX3_is_33 : decode cX3_is 33 = .ok (.iconst 0, 1) := dk_3 (dk_at dksX3_is_1 11 rfl rfl)
theorem dX3_is_34 : decode cX3_is 34 = .ok (.ireturn, 1) := dk_172 (dk_at dksX3_is_1 12 rfl rfl)
def dkwX3_letters_10 : List UInt8 := [16, 97, 16, 119, 3, 3, 3, 184, 0, 179, 173]
abbrev dktX3_letters_10 : List UInt8 := dkwX3_letters_10 ++ []
def dkwX3_letters_9 : List UInt8 := [16, 101, 16, 114, 184, 0, 179, 173, 16, 109, 16, 97, 16, 121, 3, 3, 3, 184, 0, 179, 173, 16, 108]
abbrev dktX3_letters_9 : List UInt8 := dkwX3_letters_9 ++ dktX3_letters_10
def dkwX3_letters_8 : List UInt8 := [16, 108, 16, 111, 16, 100, 16, 103, 16, 101, 16, 114, 184, 0, 179, 173, 16, 102, 16, 105, 16, 110, 16, 100]
abbrev dktX3_letters_8 : List UInt8 := dkwX3_letters_8 ++ dktX3_letters_9
def dkwX3_letters_7 : List UInt8 := [16, 116, 16, 104, 3, 3, 184, 0, 179, 173, 16, 114, 16, 111, 16, 111, 16, 109, 3, 3, 184, 0, 179, 173]
abbrev dktX3_letters_7 : List UInt8 := dkwX3_letters_7 ++ dktX3_letters_8
def dkwX3_letters_6 : List UInt8 := [184, 0, 179, 173, 16, 114, 16, 105, 16, 103, 16, 104, 16, 116, 3, 184, 0, 179, 173, 16, 98, 16, 111]
abbrev dktX3_letters_6 : List UInt8 := dkwX3_letters_6 ++ dktX3_letters_7
def dkwX3_letters_5 : List UInt8 := [16, 110, 16, 111, 16, 110, 16, 101, 3, 3, 184, 0, 179, 173, 16, 108, 16, 101, 16, 102, 16, 116, 3, 3]
abbrev dktX3_letters_5 : List UInt8 := dkwX3_letters_5 ++ dktX3_letters_6
def dkwX3_letters_4 : List UInt8 := [16, 97, 16, 108, 16, 109, 3, 3, 184, 0, 179, 173, 16, 97, 16, 116, 3, 3, 3, 3, 184, 0, 179, 173]
abbrev dktX3_letters_4 : List UInt8 := dkwX3_letters_4 ++ dktX3_letters_5
def dkwX3_letters_3 : List UInt8 := [16, 112, 184, 0, 179, 173, 16, 99, 16, 114, 16, 111, 16, 115, 16, 115, 3, 184, 0, 179, 173, 16, 99]
abbrev dktX3_letters_3 : List UInt8 := dkwX3_letters_3 ++ dktX3_letters_4
def dkwX3_letters_2 : List UInt8 := [16, 111, 16, 117, 16, 116, 3, 3, 3, 184, 0, 179, 173, 16, 97, 16, 115, 16, 108, 16, 101, 16, 101]
abbrev dktX3_letters_2 : List UInt8 := dkwX3_letters_2 ++ dktX3_letters_3
def dkwX3_letters_1 : List UInt8 := [170, 0, 0, 0, 0, 0, 253, 0, 0, 0, 0, 0, 0, 0, 12, 0, 0, 0, 67, 0, 0, 0, 80, 0, 0, 0, 96, 0, 0, 0, 111, 0, 0, 0, 125, 0, 0, 0, 137, 0, 0, 0, 151, 0, 0, 0, 165, 0, 0, 0, 180, 0, 0, 0, 194, 0, 0, 0, 208, 0, 0, 0, 224, 0, 0, 0, 240]
abbrev dktX3_letters_1 : List UInt8 := dkwX3_letters_1 ++ dktX3_letters_2
def dkwX3_letters_0 : List UInt8 := [26]
abbrev dktX3_letters_0 : List UInt8 := dkwX3_letters_0 ++ dktX3_letters_1
theorem dksX3_letters_0 : cX3_letters.data.toList.drop 0 = dktX3_letters_0 := by decide +kernel
theorem dksX3_letters_1 : cX3_letters.data.toList.drop 1 = dktX3_letters_1 := dk_seg dksX3_letters_0 1 rfl rfl
theorem dksX3_letters_2 : cX3_letters.data.toList.drop 68 = dktX3_letters_2 := dk_seg dksX3_letters_1 67 rfl rfl
theorem dksX3_letters_3 : cX3_letters.data.toList.drop 91 = dktX3_letters_3 := dk_seg dksX3_letters_2 23 rfl rfl
theorem dksX3_letters_4 : cX3_letters.data.toList.drop 114 = dktX3_letters_4 := dk_seg dksX3_letters_3 23 rfl rfl
theorem dksX3_letters_5 : cX3_letters.data.toList.drop 138 = dktX3_letters_5 := dk_seg dksX3_letters_4 24 rfl rfl
theorem dksX3_letters_6 : cX3_letters.data.toList.drop 162 = dktX3_letters_6 := dk_seg dksX3_letters_5 24 rfl rfl
theorem dksX3_letters_7 : cX3_letters.data.toList.drop 185 = dktX3_letters_7 := dk_seg dksX3_letters_6 23 rfl rfl
theorem dksX3_letters_8 : cX3_letters.data.toList.drop 209 = dktX3_letters_8 := dk_seg dksX3_letters_7 24 rfl rfl
theorem dksX3_letters_9 : cX3_letters.data.toList.drop 233 = dktX3_letters_9 := dk_seg dksX3_letters_8 24 rfl rfl
theorem dksX3_letters_10 : cX3_letters.data.toList.drop 256 = dktX3_letters_10 := dk_seg dksX3_letters_9 23 rfl rfl
theorem dX3_letters_0 : decode cX3_letters 0 = .ok (.iload_n 0, 1) := dk_26 (dk_at dksX3_letters_0 0 rfl rfl)
theorem dX3_letters_1 : decode cX3_letters 1 = .ok (.tableswitch 253 0 12 #[67, 80, 96, 111, 125, 137, 151, 165, 180, 194, 208, 224, 240], 67) := by decide +kernel
theorem dX3_letters_68 : decode cX3_letters 68 = .ok (.bipush 111, 2) := dk_16 111 (dk_at dksX3_letters_2 0 rfl rfl)
theorem dX3_letters_70 : decode cX3_letters 70 = .ok (.bipush 117, 2) := dk_16 117 (dk_at dksX3_letters_2 2 rfl rfl)
theorem dX3_letters_72 : decode cX3_letters 72 = .ok (.bipush 116, 2) := dk_16 116 (dk_at dksX3_letters_2 4 rfl rfl)
theorem dX3_letters_74 : decode cX3_letters 74 = .ok (.iconst 0, 1) := dk_3 (dk_at dksX3_letters_2 6 rfl rfl)
theorem dX3_letters_75 : decode cX3_letters 75 = .ok (.iconst 0, 1) := dk_3 (dk_at dksX3_letters_2 7 rfl rfl)
theorem dX3_letters_76 : decode cX3_letters 76 = .ok (.iconst 0, 1) := dk_3 (dk_at dksX3_letters_2 8 rfl rfl)
theorem dX3_letters_77 : decode cX3_letters 77 = .ok (.invokestatic 179, 3) := dk_184 0 179 (dk_at dksX3_letters_2 9 rfl rfl)
theorem dX3_letters_80 : decode cX3_letters 80 = .ok (.lreturn, 1) := dk_173 (dk_at dksX3_letters_2 12 rfl rfl)
theorem dX3_letters_81 : decode cX3_letters 81 = .ok (.bipush 97, 2) := dk_16 97 (dk_at dksX3_letters_2 13 rfl rfl)
theorem dX3_letters_83 : decode cX3_letters 83 = .ok (.bipush 115, 2) := dk_16 115 (dk_at dksX3_letters_2 15 rfl rfl)
theorem dX3_letters_85 : decode cX3_letters 85 = .ok (.bipush 108, 2) := dk_16 108 (dk_at dksX3_letters_2 17 rfl rfl)
theorem dX3_letters_87 : decode cX3_letters 87 = .ok (.bipush 101, 2) := dk_16 101 (dk_at dksX3_letters_2 19 rfl rfl)
theorem dX3_letters_89 : decode cX3_letters 89 = .ok (.bipush 101, 2) := dk_16 101 (dk_at dksX3_letters_2 21 rfl rfl)
theorem dX3_letters_91 : decode cX3_letters 91 = .ok (.bipush 112, 2) := dk_16 112 (dk_at dksX3_letters_3 0 rfl rfl)
theorem dX3_letters_93 : decode cX3_letters 93 = .ok (.invokestatic 179, 3) := dk_184 0 179 (dk_at dksX3_letters_3 2 rfl rfl)
theorem dX3_letters_96 : decode cX3_letters 96 = .ok (.lreturn, 1) := dk_173 (dk_at dksX3_letters_3 5 rfl rfl)
theorem dX3_letters_97 : decode cX3_letters 97 = .ok (.bipush 99, 2) := dk_16 99 (dk_at dksX3_letters_3 6 rfl rfl)
theorem dX3_letters_99 : decode cX3_letters 99 = .ok (.bipush 114, 2) := dk_16 114 (dk_at dksX3_letters_3 8 rfl rfl)
theorem dX3_letters_101 : decode cX3_letters 101 = .ok (.bipush 111, 2) := dk_16 111 (dk_at dksX3_letters_3 10 rfl rfl)
theorem dX3_letters_103 : decode cX3_letters 103 = .ok (.bipush 115, 2) := dk_16 115 (dk_at dksX3_letters_3 12 rfl rfl)
theorem dX3_letters_105 : decode cX3_letters 105 = .ok (.bipush 115, 2) := dk_16 115 (dk_at dksX3_letters_3 14 rfl rfl)
theorem dX3_letters_107 : decode cX3_letters 107 = .ok (.iconst 0, 1) := dk_3 (dk_at dksX3_letters_3 16 rfl rfl)
theorem dX3_letters_108 : decode cX3_letters 108 = .ok (.invokestatic 179, 3) := dk_184 0 179 (dk_at dksX3_letters_3 17 rfl rfl)
theorem dX3_letters_111 : decode cX3_letters 111 = .ok (.lreturn, 1) := dk_173 (dk_at dksX3_letters_3 20 rfl rfl)
theorem dX3_letters_112 : decode cX3_letters 112 = .ok (.bipush 99, 2) := dk_16 99 (dk_at dksX3_letters_3 21 rfl rfl)
theorem dX3_letters_114 : decode cX3_letters 114 = .ok (.bipush 97, 2) := dk_16 97 (dk_at dksX3_letters_4 0 rfl rfl)
theorem dX3_letters_116 : decode cX3_letters 116 = .ok (.bipush 108, 2) := dk_16 108 (dk_at dksX3_letters_4 2 rfl rfl)
theorem dX3_letters_118 : decode cX3_letters 118 = .ok (.bipush 109, 2) := dk_16 109 (dk_at dksX3_letters_4 4 rfl rfl)
theorem dX3_letters_120 : decode cX3_letters 120 = .ok (.iconst 0, 1) := dk_3 (dk_at dksX3_letters_4 6 rfl rfl)
theorem dX3_letters_121 : decode cX3_letters 121 = .ok (.iconst 0, 1) := dk_3 (dk_at dksX3_letters_4 7 rfl rfl)
theorem dX3_letters_122 : decode cX3_letters 122 = .ok (.invokestatic 179, 3) := dk_184 0 179 (dk_at dksX3_letters_4 8 rfl rfl)
theorem dX3_letters_125 : decode cX3_letters 125 = .ok (.lreturn, 1) := dk_173 (dk_at dksX3_letters_4 11 rfl rfl)
theorem dX3_letters_126 : decode cX3_letters 126 = .ok (.bipush 97, 2) := dk_16 97 (dk_at dksX3_letters_4 12 rfl rfl)
theorem dX3_letters_128 : decode cX3_letters 128 = .ok (.bipush 116, 2) := dk_16 116 (dk_at dksX3_letters_4 14 rfl rfl)
theorem dX3_letters_130 : decode cX3_letters 130 = .ok (.iconst 0, 1) := dk_3 (dk_at dksX3_letters_4 16 rfl rfl)
theorem dX3_letters_131 : decode cX3_letters 131 = .ok (.iconst 0, 1) := dk_3 (dk_at dksX3_letters_4 17 rfl rfl)
theorem dX3_letters_132 : decode cX3_letters 132 = .ok (.iconst 0, 1) := dk_3 (dk_at dksX3_letters_4 18 rfl rfl)
theorem dX3_letters_133 : decode cX3_letters 133 = .ok (.iconst 0, 1) := dk_3 (dk_at dksX3_letters_4 19 rfl rfl)
theorem dX3_letters_134 : decode cX3_letters 134 = .ok (.invokestatic 179, 3) := dk_184 0 179 (dk_at dksX3_letters_4 20 rfl rfl)
theorem dX3_letters_137 : decode cX3_letters 137 = .ok (.lreturn, 1) := dk_173 (dk_at dksX3_letters_4 23 rfl rfl)
theorem dX3_letters_138 : decode cX3_letters 138 = .ok (.bipush 110, 2) := dk_16 110 (dk_at dksX3_letters_5 0 rfl rfl)
theorem dX3_letters_140 : decode cX3_letters 140 = .ok (.bipush 111, 2) := dk_16 111 (dk_at dksX3_letters_5 2 rfl rfl)
theorem dX3_letters_142 : decode cX3_letters 142 = .ok (.bipush 110, 2) := dk_16 110 (dk_at dksX3_letters_5 4 rfl rfl)
theorem dX3_letters_144 : decode cX3_letters 144 = .ok (.bipush 101, 2) := dk_16 101 (dk_at dksX3_letters_5 6 rfl rfl)
theorem dX3_letters_146 : decode cX3_letters 146 = .ok (.iconst 0, 1) := dk_3 (dk_at dksX3_letters_5 8 rfl rfl)
theorem dX3_letters_147 : decode cX3_letters 147 = .ok (.iconst 0, 1) := dk_3 (dk_at dksX3_letters_5 9 rfl rfl)
theorem dX3_letters_148 : decode cX3_letters 148 = .ok (.invokestatic 179, 3) := dk_184 0 179 (dk_at dksX3_letters_5 10 rfl rfl)
theorem dX3_letters_151 : decode cX3_letters 151 = .ok (.lreturn, 1) := dk_173 (dk_at dksX3_letters_5 13 rfl rfl)
theorem dX3_letters_152 : decode cX3_letters 152 = .ok (.bipush 108, 2) := dk_16 108 (dk_at dksX3_letters_5 14 rfl rfl)
theorem dX3_letters_154 : decode cX3_letters 154 = .ok (.bipush 101, 2) := dk_16 101 (dk_at dksX3_letters_5 16 rfl rfl)
theorem dX3_letters_156 : decode cX3_letters 156 = .ok (.bipush 102, 2) := dk_16 102 (dk_at dksX3_letters_5 18 rfl rfl)
theorem dX3_letters_158 : decode cX3_letters 158 = .ok (.bipush 116, 2) := dk_16 116 (dk_at dksX3_letters_5 20 rfl rfl)
theorem dX3_letters_160 : decode cX3_letters 160 = .ok (.iconst 0, 1) := dk_3 (dk_at dksX3_letters_5 22 rfl rfl)
theorem dX3_letters_161 : decode cX3_letters 161 = .ok (.iconst 0, 1) := dk_3 (dk_at dksX3_letters_5 23 rfl rfl)
theorem dX3_letters_162 : decode cX3_letters 162 = .ok (.invokestatic 179, 3) := dk_184 0 179 (dk_at dksX3_letters_6 0 rfl rfl)
theorem dX3_letters_165 : decode cX3_letters 165 = .ok (.lreturn, 1) := dk_173 (dk_at dksX3_letters_6 3 rfl rfl)
theorem dX3_letters_166 : decode cX3_letters 166 = .ok (.bipush 114, 2) := dk_16 114 (dk_at dksX3_letters_6 4 rfl rfl)
theorem dX3_letters_168 : decode cX3_letters 168 = .ok (.bipush 105, 2) := dk_16 105 (dk_at dksX3_letters_6 6 rfl rfl)
theorem dX3_letters_170 : decode cX3_letters 170 = .ok (.bipush 103, 2) := dk_16 103 (dk_at dksX3_letters_6 8 rfl rfl)
theorem dX3_letters_172 : decode cX3_letters 172 = .ok (.bipush 104, 2) := dk_16 104 (dk_at dksX3_letters_6 10 rfl rfl)
theorem dX3_letters_174 : decode cX3_letters 174 = .ok (.bipush 116, 2) := dk_16 116 (dk_at dksX3_letters_6 12 rfl rfl)
theorem dX3_letters_176 : decode cX3_letters 176 = .ok (.iconst 0, 1) := dk_3 (dk_at dksX3_letters_6 14 rfl rfl)
theorem dX3_letters_177 : decode cX3_letters 177 = .ok (.invokestatic 179, 3) := dk_184 0 179 (dk_at dksX3_letters_6 15 rfl rfl)
theorem dX3_letters_180 : decode cX3_letters 180 = .ok (.lreturn, 1) := dk_173 (dk_at dksX3_letters_6 18 rfl rfl)
theorem dX3_letters_181 : decode cX3_letters 181 = .ok (.bipush 98, 2) := dk_16 98 (dk_at dksX3_letters_6 19 rfl rfl)
theorem dX3_letters_183 : decode cX3_letters 183 = .ok (.bipush 111, 2) := dk_16 111 (dk_at dksX3_letters_6 21 rfl rfl)
theorem dX3_letters_185 : decode cX3_letters 185 = .ok (.bipush 116, 2) := dk_16 116 (dk_at dksX3_letters_7 0 rfl rfl)
theorem dX3_letters_187 : decode cX3_letters 187 = .ok (.bipush 104, 2) := dk_16 104 (dk_at dksX3_letters_7 2 rfl rfl)
theorem dX3_letters_189 : decode cX3_letters 189 = .ok (.iconst 0, 1) := dk_3 (dk_at dksX3_letters_7 4 rfl rfl)
theorem dX3_letters_190 : decode cX3_letters 190 = .ok (.iconst 0, 1) := dk_3 (dk_at dksX3_letters_7 5 rfl rfl)
theorem dX3_letters_191 : decode cX3_letters 191 = .ok (.invokestatic 179, 3) := dk_184 0 179 (dk_at dksX3_letters_7 6 rfl rfl)
theorem dX3_letters_194 : decode cX3_letters 194 = .ok (.lreturn, 1) := dk_173 (dk_at dksX3_letters_7 9 rfl rfl)
theorem dX3_letters_195 : decode cX3_letters 195 = .ok (.bipush 114, 2) := dk_16 114 (dk_at dksX3_letters_7 10 rfl rfl)
theorem dX3_letters_197 : decode cX3_letters 197 = .ok (.bipush 111, 2) := dk_16 111 (dk_at dksX3_letters_7 12 rfl rfl)
theorem dX3_letters_199 : decode cX3_letters 199 = .ok (.bipush 111, 2) := dk_16 111 (dk_at dksX3_letters_7 14 rfl rfl)
theorem dX3_letters_201 : decode cX3_letters 201 = .ok (.bipush 109, 2) := dk_16 109 (dk_at dksX3_letters_7 16 rfl rfl)
theorem dX3_letters_203 : decode cX3_letters 203 = .ok (.iconst 0, 1) := dk_3 (dk_at dksX3_letters_7 18 rfl rfl)
theorem dX3_letters_204 : decode cX3_letters 204 = .ok (.iconst 0, 1) := dk_3 (dk_at dksX3_letters_7 19 rfl rfl)
theorem dX3_letters_205 : decode cX3_letters 205 = .ok (.invokestatic 179, 3) := dk_184 0 179 (dk_at dksX3_letters_7 20 rfl rfl)
theorem dX3_letters_208 : decode cX3_letters 208 = .ok (.lreturn, 1) := dk_173 (dk_at dksX3_letters_7 23 rfl rfl)
theorem dX3_letters_209 : decode cX3_letters 209 = .ok (.bipush 108, 2) := dk_16 108 (dk_at dksX3_letters_8 0 rfl rfl)
theorem dX3_letters_211 : decode cX3_letters 211 = .ok (.bipush 111, 2) := dk_16 111 (dk_at dksX3_letters_8 2 rfl rfl)
theorem dX3_letters_213 : decode cX3_letters 213 = .ok (.bipush 100, 2) := dk_16 100 (dk_at dksX3_letters_8 4 rfl rfl)
theorem dX3_letters_215 : decode cX3_letters 215 = .ok (.bipush 103, 2) := dk_16 103 (dk_at dksX3_letters_8 6 rfl rfl)
theorem dX3_letters_217 : decode cX3_letters 217 = .ok (.bipush 101, 2) := dk_16 101 (dk_at dksX3_letters_8 8 rfl rfl)
theorem dX3_letters_219 : decode cX3_letters 219 = .ok (.bipush 114, 2) := dk_16 114 (dk_at dksX3_letters_8 10 rfl rfl)
theorem dX3_letters_221 : decode cX3_letters 221 = .ok (.invokestatic 179, 3) := dk_184 0 179 (dk_at dksX3_letters_8 12 rfl rfl)
theorem dX3_letters_224 : decode cX3_letters 224 = .ok (.lreturn, 1) := dk_173 (dk_at dksX3_letters_8 15 rfl rfl)
theorem dX3_letters_225 : decode cX3_letters 225 = .ok (.bipush 102, 2) := dk_16 102 (dk_at dksX3_letters_8 16 rfl rfl)
theorem dX3_letters_227 : decode cX3_letters 227 = .ok (.bipush 105, 2) := dk_16 105 (dk_at dksX3_letters_8 18 rfl rfl)
theorem dX3_letters_229 : decode cX3_letters 229 = .ok (.bipush 110, 2) := dk_16 110 (dk_at dksX3_letters_8 20 rfl rfl)
theorem dX3_letters_231 : decode cX3_letters 231 = .ok (.bipush 100, 2) := dk_16 100 (dk_at dksX3_letters_8 22 rfl rfl)
theorem dX3_letters_233 : decode cX3_letters 233 = .ok (.bipush 101, 2) := dk_16 101 (dk_at dksX3_letters_9 0 rfl rfl)
theorem dX3_letters_235 : decode cX3_letters 235 = .ok (.bipush 114, 2) := dk_16 114 (dk_at dksX3_letters_9 2 rfl rfl)
theorem dX3_letters_237 : decode cX3_letters 237 = .ok (.invokestatic 179, 3) := dk_184 0 179 (dk_at dksX3_letters_9 4 rfl rfl)
theorem dX3_letters_240 : decode cX3_letters 240 = .ok (.lreturn, 1) := dk_173 (dk_at dksX3_letters_9 7 rfl rfl)
theorem dX3_letters_241 : decode cX3_letters 241 = .ok (.bipush 109, 2) := dk_16 109 (dk_at dksX3_letters_9 8 rfl rfl)
theorem dX3_letters_243 : decode cX3_letters 243 = .ok (.bipush 97, 2) := dk_16 97 (dk_at dksX3_letters_9 10 rfl rfl)
theorem dX3_letters_245 : decode cX3_letters 245 = .ok (.bipush 121, 2) := dk_16 121 (dk_at dksX3_letters_9 12 rfl rfl)
theorem dX3_letters_247 : decode cX3_letters 247 = .ok (.iconst 0, 1) := dk_3 (dk_at dksX3_letters_9 14 rfl rfl)
theorem dX3_letters_248 : decode cX3_letters 248 = .ok (.iconst 0, 1) := dk_3 (dk_at dksX3_letters_9 15 rfl rfl)
theorem dX3_letters_249 : decode cX3_letters 249 = .ok (.iconst 0, 1) := dk_3 (dk_at dksX3_letters_9 16 rfl rfl)
theorem dX3_letters_250 : decode cX3_letters 250 = .ok (.invokestatic 179, 3) := dk_184 0 179 (dk_at dksX3_letters_9 17 rfl rfl)
theorem dX3_letters_253 : decode cX3_letters 253 = .ok (.lreturn, 1) := dk_173 (dk_at dksX3_letters_9 20 rfl rfl)
theorem dX3_letters_254 : decode cX3_letters 254 = .ok (.bipush 108, 2) := dk_16 108 (dk_at dksX3_letters_9 21 rfl rfl)
theorem dX3_letters_256 : decode cX3_letters 256 = .ok (.bipush 97, 2) := dk_16 97 (dk_at dksX3_letters_10 0 rfl rfl)
theorem dX3_letters_258 : decode cX3_letters 258 = .ok (.bipush 119, 2) := dk_16 119 (dk_at dksX3_letters_10 2 rfl rfl)
theorem dX3_letters_260 : decode cX3_letters 260 = .ok (.iconst 0, 1) := dk_3 (dk_at dksX3_letters_10 4 rfl rfl)
theorem dX3_letters_261 : decode cX3_letters 261 = .ok (.iconst 0, 1) := dk_3 (dk_at dksX3_letters_10 5 rfl rfl)
theorem dX3_letters_262 : decode cX3_letters 262 = .ok (.iconst 0, 1) := dk_3 (dk_at dksX3_letters_10 6 rfl rfl)
theorem dX3_letters_263 : decode cX3_letters 263 = .ok (.invokestatic 179, 3) := dk_184 0 179 (dk_at dksX3_letters_10 7 rfl rfl)
theorem dX3_letters_266 : decode cX3_letters 266 = .ok (.lreturn, 1) := dk_173 (dk_at dksX3_letters_10 10 rfl rfl)
def dkwX3_spelled_3 : List UInt8 := [22, 6, 8, 121, 21, 5, 16, 96, 100, 133, 129, 55, 6, 22, 6, 173]
abbrev dktX3_spelled_3 : List UInt8 := dkwX3_spelled_3 ++ []
def dkwX3_spelled_2 : List UInt8 := [21, 4, 153, 0, 16, 22, 6, 8, 121, 21, 4, 16, 96, 100, 133, 129, 55, 6, 21, 5, 153, 0, 16]
abbrev dktX3_spelled_2 : List UInt8 := dkwX3_spelled_2 ++ dktX3_spelled_3
def dkwX3_spelled_1 : List UInt8 := [28, 16, 96, 100, 133, 129, 55, 6, 29, 153, 0, 15, 22, 6, 8, 121, 29, 16, 96, 100, 133, 129, 55, 6]
abbrev dktX3_spelled_1 : List UInt8 := dkwX3_spelled_1 ++ dktX3_spelled_2
def dkwX3_spelled_0 : List UInt8 := [26, 133, 20, 0, 177, 101, 8, 121, 27, 16, 96, 100, 133, 129, 55, 6, 28, 153, 0, 15, 22, 6, 8, 121]
abbrev dktX3_spelled_0 : List UInt8 := dkwX3_spelled_0 ++ dktX3_spelled_1
theorem dksX3_spelled_0 : cX3_spelled.data.toList.drop 0 = dktX3_spelled_0 := by decide +kernel
theorem dksX3_spelled_1 : cX3_spelled.data.toList.drop 24 = dktX3_spelled_1 := dk_seg dksX3_spelled_0 24 rfl rfl
theorem dksX3_spelled_2 : cX3_spelled.data.toList.drop 48 = dktX3_spelled_2 := dk_seg dksX3_spelled_1 24 rfl rfl
theorem dksX3_spelled_3 : cX3_spelled.data.toList.drop 71 = dktX3_spelled_3 := dk_seg dksX3_spelled_2 23 rfl rfl
theorem dX3_spelled_0 : decode cX3_spelled 0 = .ok (.iload_n 0, 1) := dk_26 (dk_at dksX3_spelled_0 0 rfl rfl)
theorem dX3_spelled_1 : decode cX3_spelled 1 = .ok (.i2l, 1) := dk_133 (dk_at dksX3_spelled_0 1 rfl rfl)
theorem dX3_spelled_2 : decode cX3_spelled 2 = .ok (.ldc2_w 177, 3) := dk_20 0 177 (dk_at dksX3_spelled_0 2 rfl rfl)
theorem dX3_spelled_5 : decode cX3_spelled 5 = .ok (.lsub, 1) := dk_101 (dk_at dksX3_spelled_0 5 rfl rfl)
theorem dX3_spelled_6 : decode cX3_spelled 6 = .ok (.iconst 5, 1) := dk_8 (dk_at dksX3_spelled_0 6 rfl rfl)
theorem dX3_spelled_7 : decode cX3_spelled 7 = .ok (.lshl, 1) := dk_121 (dk_at dksX3_spelled_0 7 rfl rfl)
theorem dX3_spelled_8 : decode cX3_spelled 8 = .ok (.iload_n 1, 1) := dk_27 (dk_at dksX3_spelled_0 8 rfl rfl)
theorem dX3_spelled_9 : decode cX3_spelled 9 = .ok (.bipush 96, 2) := dk_16 96 (dk_at dksX3_spelled_0 9 rfl rfl)
theorem dX3_spelled_11 : decode cX3_spelled 11 = .ok (.isub, 1) := dk_100 (dk_at dksX3_spelled_0 11 rfl rfl)
theorem dX3_spelled_12 : decode cX3_spelled 12 = .ok (.i2l, 1) := dk_133 (dk_at dksX3_spelled_0 12 rfl rfl)
theorem dX3_spelled_13 : decode cX3_spelled 13 = .ok (.lor, 1) := dk_129 (dk_at dksX3_spelled_0 13 rfl rfl)
theorem dX3_spelled_14 : decode cX3_spelled 14 = .ok (.lstore 6, 2) := dk_55 6 (dk_at dksX3_spelled_0 14 rfl rfl)
theorem dX3_spelled_16 : decode cX3_spelled 16 = .ok (.iload_n 2, 1) := dk_28 (dk_at dksX3_spelled_0 16 rfl rfl)
theorem dX3_spelled_17 : decode cX3_spelled 17 = .ok (.ifCond .eq 15, 3) := dk_153 0 15 (dk_at dksX3_spelled_0 17 rfl rfl)
theorem dX3_spelled_20 : decode cX3_spelled 20 = .ok (.lload 6, 2) := dk_22 6 (dk_at dksX3_spelled_0 20 rfl rfl)
theorem dX3_spelled_22 : decode cX3_spelled 22 = .ok (.iconst 5, 1) := dk_8 (dk_at dksX3_spelled_0 22 rfl rfl)
theorem dX3_spelled_23 : decode cX3_spelled 23 = .ok (.lshl, 1) := dk_121 (dk_at dksX3_spelled_0 23 rfl rfl)
theorem dX3_spelled_24 : decode cX3_spelled 24 = .ok (.iload_n 2, 1) := dk_28 (dk_at dksX3_spelled_1 0 rfl rfl)
theorem dX3_spelled_25 : decode cX3_spelled 25 = .ok (.bipush 96, 2) := dk_16 96 (dk_at dksX3_spelled_1 1 rfl rfl)
theorem dX3_spelled_27 : decode cX3_spelled 27 = .ok (.isub, 1) := dk_100 (dk_at dksX3_spelled_1 3 rfl rfl)
theorem dX3_spelled_28 : decode cX3_spelled 28 = .ok (.i2l, 1) := dk_133 (dk_at dksX3_spelled_1 4 rfl rfl)
theorem dX3_spelled_29 : decode cX3_spelled 29 = .ok (.lor, 1) := dk_129 (dk_at dksX3_spelled_1 5 rfl rfl)
theorem dX3_spelled_30 : decode cX3_spelled 30 = .ok (.lstore 6, 2) := dk_55 6 (dk_at dksX3_spelled_1 6 rfl rfl)
theorem dX3_spelled_32 : decode cX3_spelled 32 = .ok (.iload_n 3, 1) := dk_29 (dk_at dksX3_spelled_1 8 rfl rfl)
theorem dX3_spelled_33 : decode cX3_spelled 33 = .ok (.ifCond .eq 15, 3) := dk_153 0 15 (dk_at dksX3_spelled_1 9 rfl rfl)
theorem dX3_spelled_36 : decode cX3_spelled 36 = .ok (.lload 6, 2) := dk_22 6 (dk_at dksX3_spelled_1 12 rfl rfl)
theorem dX3_spelled_38 : decode cX3_spelled 38 = .ok (.iconst 5, 1) := dk_8 (dk_at dksX3_spelled_1 14 rfl rfl)
theorem dX3_spelled_39 : decode cX3_spelled 39 = .ok (.lshl, 1) := dk_121 (dk_at dksX3_spelled_1 15 rfl rfl)
theorem dX3_spelled_40 : decode cX3_spelled 40 = .ok (.iload_n 3, 1) := dk_29 (dk_at dksX3_spelled_1 16 rfl rfl)
theorem dX3_spelled_41 : decode cX3_spelled 41 = .ok (.bipush 96, 2) := dk_16 96 (dk_at dksX3_spelled_1 17 rfl rfl)
theorem dX3_spelled_43 : decode cX3_spelled 43 = .ok (.isub, 1) := dk_100 (dk_at dksX3_spelled_1 19 rfl rfl)
theorem dX3_spelled_44 : decode cX3_spelled 44 = .ok (.i2l, 1) := dk_133 (dk_at dksX3_spelled_1 20 rfl rfl)
theorem dX3_spelled_45 : decode cX3_spelled 45 = .ok (.lor, 1) := dk_129 (dk_at dksX3_spelled_1 21 rfl rfl)
theorem dX3_spelled_46 : decode cX3_spelled 46 = .ok (.lstore 6, 2) := dk_55 6 (dk_at dksX3_spelled_1 22 rfl rfl)
theorem dX3_spelled_48 : decode cX3_spelled 48 = .ok (.iload 4, 2) := dk_21 4 (dk_at dksX3_spelled_2 0 rfl rfl)
theorem dX3_spelled_50 : decode cX3_spelled 50 = .ok (.ifCond .eq 16, 3) := dk_153 0 16 (dk_at dksX3_spelled_2 2 rfl rfl)
theorem dX3_spelled_53 : decode cX3_spelled 53 = .ok (.lload 6, 2) := dk_22 6 (dk_at dksX3_spelled_2 5 rfl rfl)
theorem dX3_spelled_55 : decode cX3_spelled 55 = .ok (.iconst 5, 1) := dk_8 (dk_at dksX3_spelled_2 7 rfl rfl)
theorem dX3_spelled_56 : decode cX3_spelled 56 = .ok (.lshl, 1) := dk_121 (dk_at dksX3_spelled_2 8 rfl rfl)
theorem dX3_spelled_57 : decode cX3_spelled 57 = .ok (.iload 4, 2) := dk_21 4 (dk_at dksX3_spelled_2 9 rfl rfl)
theorem dX3_spelled_59 : decode cX3_spelled 59 = .ok (.bipush 96, 2) := dk_16 96 (dk_at dksX3_spelled_2 11 rfl rfl)
theorem dX3_spelled_61 : decode cX3_spelled 61 = .ok (.isub, 1) := dk_100 (dk_at dksX3_spelled_2 13 rfl rfl)
theorem dX3_spelled_62 : decode cX3_spelled 62 = .ok (.i2l, 1) := dk_133 (dk_at dksX3_spelled_2 14 rfl rfl)
theorem dX3_spelled_63 : decode cX3_spelled 63 = .ok (.lor, 1) := dk_129 (dk_at dksX3_spelled_2 15 rfl rfl)
theorem dX3_spelled_64 : decode cX3_spelled 64 = .ok (.lstore 6, 2) := dk_55 6 (dk_at dksX3_spelled_2 16 rfl rfl)
theorem dX3_spelled_66 : decode cX3_spelled 66 = .ok (.iload 5, 2) := dk_21 5 (dk_at dksX3_spelled_2 18 rfl rfl)
theorem dX3_spelled_68 : decode cX3_spelled 68 = .ok (.ifCond .eq 16, 3) := dk_153 0 16 (dk_at dksX3_spelled_2 20 rfl rfl)
theorem dX3_spelled_71 : decode cX3_spelled 71 = .ok (.lload 6, 2) := dk_22 6 (dk_at dksX3_spelled_3 0 rfl rfl)
theorem dX3_spelled_73 : decode cX3_spelled 73 = .ok (.iconst 5, 1) := dk_8 (dk_at dksX3_spelled_3 2 rfl rfl)
theorem dX3_spelled_74 : decode cX3_spelled 74 = .ok (.lshl, 1) := dk_121 (dk_at dksX3_spelled_3 3 rfl rfl)
theorem dX3_spelled_75 : decode cX3_spelled 75 = .ok (.iload 5, 2) := dk_21 5 (dk_at dksX3_spelled_3 4 rfl rfl)
theorem dX3_spelled_77 : decode cX3_spelled 77 = .ok (.bipush 96, 2) := dk_16 96 (dk_at dksX3_spelled_3 6 rfl rfl)
theorem dX3_spelled_79 : decode cX3_spelled 79 = .ok (.isub, 1) := dk_100 (dk_at dksX3_spelled_3 8 rfl rfl)
theorem dX3_spelled_80 : decode cX3_spelled 80 = .ok (.i2l, 1) := dk_133 (dk_at dksX3_spelled_3 9 rfl rfl)
theorem dX3_spelled_81 : decode cX3_spelled 81 = .ok (.lor, 1) := dk_129 (dk_at dksX3_spelled_3 10 rfl rfl)
theorem dX3_spelled_82 : decode cX3_spelled 82 = .ok (.lstore 6, 2) := dk_55 6 (dk_at dksX3_spelled_3 11 rfl rfl)
theorem dX3_spelled_84 : decode cX3_spelled 84 = .ok (.lload 6, 2) := dk_22 6 (dk_at dksX3_spelled_3 13 rfl rfl)
theorem dX3_spelled_86 : decode cX3_spelled 86 = .ok (.lreturn, 1) := dk_173 (dk_at dksX3_spelled_3 15 rfl rfl)
def dkwX3_wrong_0 : List UInt8 := [42, 180, 0, 187, 153, 0, 4, 177, 42, 27, 181, 0, 187, 42, 42, 180, 0, 154, 181, 0, 34, 177]
abbrev dktX3_wrong_0 : List UInt8 := dkwX3_wrong_0 ++ []
theorem dksX3_wrong_0 : cX3_wrong.data.toList.drop 0 = dktX3_wrong_0 := by decide +kernel
theorem dX3_wrong_0 : decode cX3_wrong 0 = .ok (.aload_n 0, 1) := dk_42 (dk_at dksX3_wrong_0 0 rfl rfl)
theorem dX3_wrong_1 : decode cX3_wrong 1 = .ok (.getfield 187, 3) := dk_180 0 187 (dk_at dksX3_wrong_0 1 rfl rfl)
theorem dX3_wrong_4 : decode cX3_wrong 4 = .ok (.ifCond .eq 4, 3) := dk_153 0 4 (dk_at dksX3_wrong_0 4 rfl rfl)
theorem dX3_wrong_7 : decode cX3_wrong 7 = .ok (.return_, 1) := dk_177 (dk_at dksX3_wrong_0 7 rfl rfl)
theorem dX3_wrong_8 : decode cX3_wrong 8 = .ok (.aload_n 0, 1) := dk_42 (dk_at dksX3_wrong_0 8 rfl rfl)
theorem dX3_wrong_9 : decode cX3_wrong 9 = .ok (.iload_n 1, 1) := dk_27 (dk_at dksX3_wrong_0 9 rfl rfl)
theorem dX3_wrong_10 : decode cX3_wrong 10 = .ok (.putfield 187, 3) := dk_181 0 187 (dk_at dksX3_wrong_0 10 rfl rfl)
theorem dX3_wrong_13 : decode cX3_wrong 13 = .ok (.aload_n 0, 1) := dk_42 (dk_at dksX3_wrong_0 13 rfl rfl)
theorem dX3_wrong_14 : decode cX3_wrong 14 = .ok (.aload_n 0, 1) := dk_42 (dk_at dksX3_wrong_0 14 rfl rfl)
theorem dX3_wrong_15 : decode cX3_wrong 15 = .ok (.getfield 154, 3) := dk_180 0 154 (dk_at dksX3_wrong_0 15 rfl rfl)
theorem dX3_wrong_18 : decode cX3_wrong 18 = .ok (.putfield 34, 3) := dk_181 0 34 (dk_at dksX3_wrong_0 18 rfl rfl)
theorem dX3_wrong_21 : decode cX3_wrong 21 = .ok (.return_, 1) := dk_177 (dk_at dksX3_wrong_0 21 rfl rfl)
def dkwX3_number_3 : List UInt8 := [29, 172]
abbrev dktX3_number_3 : List UInt8 := dkwX3_number_3 ++ []
def dkwX3_number_2 : List UInt8 := [164, 0, 8, 42, 5, 182, 0, 197, 42, 180, 0, 161, 62, 42, 182, 0, 190, 153, 0, 7, 42, 182, 0, 194]
abbrev dktX3_number_2 : List UInt8 := dkwX3_number_2 ++ dktX3_number_3
def dkwX3_number_1 : List UInt8 := [167, 0, 32, 42, 180, 0, 174, 6, 163, 0, 19, 42, 180, 0, 161, 27, 161, 0, 11, 42, 180, 0, 161, 28]
abbrev dktX3_number_1 : List UInt8 := dkwX3_number_1 ++ dktX3_number_2
def dkwX3_number_0 : List UInt8 := [42, 182, 0, 190, 154, 0, 5, 3, 172, 42, 180, 0, 164, 5, 159, 0, 11, 42, 4, 182, 0, 197]
abbrev dktX3_number_0 : List UInt8 := dkwX3_number_0 ++ dktX3_number_1
theorem dksX3_number_0 : cX3_number.data.toList.drop 0 = dktX3_number_0 := by decide +kernel
theorem dksX3_number_1 : cX3_number.data.toList.drop 22 = dktX3_number_1 := dk_seg dksX3_number_0 22 rfl rfl
theorem dksX3_number_2 : cX3_number.data.toList.drop 46 = dktX3_number_2 := dk_seg dksX3_number_1 24 rfl rfl
theorem dksX3_number_3 : cX3_number.data.toList.drop 70 = dktX3_number_3 := dk_seg dksX3_number_2 24 rfl rfl
theorem dX3_number_0 : decode cX3_number 0 = .ok (.aload_n 0, 1) := dk_42 (dk_at dksX3_number_0 0 rfl rfl)
theorem dX3_number_1 : decode cX3_number 1 = .ok (.invokevirtual 190, 3) := dk_182 0 190 (dk_at dksX3_number_0 1 rfl rfl)
theorem dX3_number_4 : decode cX3_number 4 = .ok (.ifCond .ne 5, 3) := dk_154 0 5 (dk_at dksX3_number_0 4 rfl rfl)
theorem dX3_number_7 : decode cX3_number 7 = .ok (.iconst 0, 1) := dk_3 (dk_at dksX3_number_0 7 rfl rfl)
theorem dX3_number_8 : decode cX3_number 8 = .ok (.ireturn, 1) := dk_172 (dk_at dksX3_number_0 8 rfl rfl)
theorem dX3_number_9 : decode cX3_number 9 = .ok (.aload_n 0, 1) := dk_42 (dk_at dksX3_number_0 9 rfl rfl)
theorem dX3_number_10 : decode cX3_number 10 = .ok (.getfield 164, 3) := dk_180 0 164 (dk_at dksX3_number_0 10 rfl rfl)
theorem dX3_number_13 : decode cX3_number 13 = .ok (.iconst 2, 1) := dk_5 (dk_at dksX3_number_0 13 rfl rfl)
theorem dX3_number_14 : decode cX3_number 14 = .ok (.if_icmp .eq 11, 3) := dk_159 0 11 (dk_at dksX3_number_0 14 rfl rfl)
theorem dX3_number_17 : decode cX3_number 17 = .ok (.aload_n 0, 1) := dk_42 (dk_at dksX3_number_0 17 rfl rfl)
theorem dX3_number_18 : decode cX3_number 18 = .ok (.iconst 1, 1) := dk_4 (dk_at dksX3_number_0 18 rfl rfl)
theorem dX3_number_19 : decode cX3_number 19 = .ok (.invokevirtual 197, 3) := dk_182 0 197 (dk_at dksX3_number_0 19 rfl rfl)
theorem dX3_number_22 : decode cX3_number 22 = .ok (.goto 32, 3) := dk_167 0 32 (dk_at dksX3_number_1 0 rfl rfl)
theorem dX3_number_25 : decode cX3_number 25 = .ok (.aload_n 0, 1) := dk_42 (dk_at dksX3_number_1 3 rfl rfl)
theorem dX3_number_26 : decode cX3_number 26 = .ok (.getfield 174, 3) := dk_180 0 174 (dk_at dksX3_number_1 4 rfl rfl)
theorem dX3_number_29 : decode cX3_number 29 = .ok (.iconst 3, 1) := dk_6 (dk_at dksX3_number_1 7 rfl rfl)
theorem dX3_number_30 : decode cX3_number 30 = .ok (.if_icmp .gt 19, 3) := dk_163 0 19 (dk_at dksX3_number_1 8 rfl rfl)
theorem dX3_number_33 : decode cX3_number 33 = .ok (.aload_n 0, 1) := dk_42 (dk_at dksX3_number_1 11 rfl rfl)
theorem dX3_number_34 : decode cX3_number 34 = .ok (.getfield 161, 3) := dk_180 0 161 (dk_at dksX3_number_1 12 rfl rfl)
theorem dX3_number_37 : decode cX3_number 37 = .ok (.iload_n 1, 1) := dk_27 (dk_at dksX3_number_1 15 rfl rfl)
theorem dX3_number_38 : decode cX3_number 38 = .ok (.if_icmp .lt 11, 3) := dk_161 0 11 (dk_at dksX3_number_1 16 rfl rfl)
theorem dX3_number_41 : decode cX3_number 41 = .ok (.aload_n 0, 1) := dk_42 (dk_at dksX3_number_1 19 rfl rfl)
theorem dX3_number_42 : decode cX3_number 42 = .ok (.getfield 161, 3) := dk_180 0 161 (dk_at dksX3_number_1 20 rfl rfl)
theorem dX3_number_45 : decode cX3_number 45 = .ok (.iload_n 2, 1) := dk_28 (dk_at dksX3_number_1 23 rfl rfl)
theorem dX3_number_46 : decode cX3_number 46 = .ok (.if_icmp .le 8, 3) := dk_164 0 8 (dk_at dksX3_number_2 0 rfl rfl)
theorem dX3_number_49 : decode cX3_number 49 = .ok (.aload_n 0, 1) := dk_42 (dk_at dksX3_number_2 3 rfl rfl)
theorem dX3_number_50 : decode cX3_number 50 = .ok (.iconst 2, 1) := dk_5 (dk_at dksX3_number_2 4 rfl rfl)
theorem dX3_number_51 : decode cX3_number 51 = .ok (.invokevirtual 197, 3) := dk_182 0 197 (dk_at dksX3_number_2 5 rfl rfl)
theorem dX3_number_54 : decode cX3_number 54 = .ok (.aload_n 0, 1) := dk_42 (dk_at dksX3_number_2 8 rfl rfl)
theorem dX3_number_55 : decode cX3_number 55 = .ok (.getfield 161, 3) := dk_180 0 161 (dk_at dksX3_number_2 9 rfl rfl)
theorem dX3_number_58 : decode cX3_number 58 = .ok (.istore_n 3, 1) := dk_62 (dk_at dksX3_number_2 12 rfl rfl)
theorem dX3_number_59 : decode cX3_number 59 = .ok (.aload_n 0, 1) := dk_42 (dk_at dksX3_number_2 13 rfl rfl)
theorem dX3_number_60 : decode cX3_number 60 = .ok (.invokevirtual 190, 3) := dk_182 0 190 (dk_at dksX3_number_2 14 rfl rfl)
theorem dX3_number_63 : decode cX3_number 63 = .ok (.ifCond .eq 7, 3) := dk_153 0 7 (dk_at dksX3_number_2 17 rfl rfl)
theorem dX3_number_66 : decode cX3_number 66 = .ok (.aload_n 0, 1) := dk_42 (dk_at dksX3_number_2 20 rfl rfl)
theorem dX3_number_67 : decode cX3_number 67 = .ok (.invokevirtual 194, 3) := dk_182 0 194 (dk_at dksX3_number_2 21 rfl rfl)
theorem dX3_number_70 : decode cX3_number 70 = .ok (.iload_n 3, 1) := dk_29 (dk_at dksX3_number_3 0 rfl rfl)
theorem dX3_number_71 : decode cX3_number 71 = .ok (.ireturn, 1) := dk_172 (dk_at dksX3_number_3 1 rfl rfl)
def dkwX3_readsLodger_8 : List UInt8 := [153, 0, 7, 3, 167, 0, 4, 4, 79, 42, 89, 180, 0, 206, 4, 96, 181, 0, 206, 177]
abbrev dktX3_readsLodger_8 : List UInt8 := dkwX3_readsLodger_8 ++ []
def dkwX3_readsLodger_7 : List UInt8 := [104, 29, 153, 0, 7, 3, 167, 0, 4, 4, 79, 42, 180, 0, 50, 5, 42, 180, 0, 206, 104, 4, 96, 28]
abbrev dktX3_readsLodger_7 : List UInt8 := dkwX3_readsLodger_7 ++ dktX3_readsLodger_8
def dkwX3_readsLodger_6 : List UInt8 := [180, 0, 206, 27, 79, 42, 180, 0, 44, 27, 42, 180, 0, 206, 79, 42, 180, 0, 50, 5, 42, 180, 0, 206]
abbrev dktX3_readsLodger_6 : List UInt8 := dkwX3_readsLodger_6 ++ dktX3_readsLodger_7
def dkwX3_readsLodger_5 : List UInt8 := [154, 0, 7, 29, 153, 0, 7, 42, 182, 0, 194, 42, 182, 0, 190, 154, 0, 4, 177, 42, 180, 0, 47, 42]
abbrev dktX3_readsLodger_5 : List UInt8 := dkwX3_readsLodger_5 ++ dktX3_readsLodger_6
def dkwX3_readsLodger_4 : List UInt8 := [182, 0, 190, 153, 0, 16, 42, 16, 7, 182, 0, 203, 153, 0, 7, 4, 167, 0, 4, 3, 62, 28]
abbrev dktX3_readsLodger_4 : List UInt8 := dkwX3_readsLodger_4 ++ dktX3_readsLodger_5
def dkwX3_readsLodger_3 : List UInt8 := [42, 182, 0, 190, 153, 0, 16, 42, 16, 6, 182, 0, 203, 153, 0, 7, 4, 167, 0, 4, 3, 61, 42]
abbrev dktX3_readsLodger_3 : List UInt8 := dkwX3_readsLodger_3 ++ dktX3_readsLodger_4
def dkwX3_readsLodger_2 : List UInt8 := [159, 0, 8, 42, 7, 182, 0, 197, 42, 180, 0, 161, 60, 42, 182, 0, 190, 153, 0, 7, 42, 182, 0, 194]
abbrev dktX3_readsLodger_2 : List UInt8 := dkwX3_readsLodger_2 ++ dktX3_readsLodger_3
def dkwX3_readsLodger_1 : List UInt8 := [182, 0, 194, 42, 42, 180, 0, 209, 182, 0, 200, 153, 0, 21, 42, 180, 0, 44, 42, 180, 0, 161, 46, 2]
abbrev dktX3_readsLodger_1 : List UInt8 := dkwX3_readsLodger_1 ++ dktX3_readsLodger_2
def dkwX3_readsLodger_0 : List UInt8 := [42, 180, 0, 206, 16, 6, 160, 0, 8, 42, 5, 182, 0, 197, 42, 182, 0, 190, 154, 0, 4, 177, 42]
abbrev dktX3_readsLodger_0 : List UInt8 := dkwX3_readsLodger_0 ++ dktX3_readsLodger_1
theorem dksX3_readsLodger_0 : cX3_readsLodger.data.toList.drop 0 = dktX3_readsLodger_0 := by decide +kernel
theorem dksX3_readsLodger_1 : cX3_readsLodger.data.toList.drop 23 = dktX3_readsLodger_1 := dk_seg dksX3_readsLodger_0 23 rfl rfl
theorem dksX3_readsLodger_2 : cX3_readsLodger.data.toList.drop 47 = dktX3_readsLodger_2 := dk_seg dksX3_readsLodger_1 24 rfl rfl
theorem dksX3_readsLodger_3 : cX3_readsLodger.data.toList.drop 71 = dktX3_readsLodger_3 := dk_seg dksX3_readsLodger_2 24 rfl rfl
theorem dksX3_readsLodger_4 : cX3_readsLodger.data.toList.drop 94 = dktX3_readsLodger_4 := dk_seg dksX3_readsLodger_3 23 rfl rfl
theorem dksX3_readsLodger_5 : cX3_readsLodger.data.toList.drop 116 = dktX3_readsLodger_5 := dk_seg dksX3_readsLodger_4 22 rfl rfl
theorem dksX3_readsLodger_6 : cX3_readsLodger.data.toList.drop 140 = dktX3_readsLodger_6 := dk_seg dksX3_readsLodger_5 24 rfl rfl
theorem dksX3_readsLodger_7 : cX3_readsLodger.data.toList.drop 164 = dktX3_readsLodger_7 := dk_seg dksX3_readsLodger_6 24 rfl rfl
theorem dksX3_readsLodger_8 : cX3_readsLodger.data.toList.drop 188 = dktX3_readsLodger_8 := dk_seg dksX3_readsLodger_7 24 rfl rfl
theorem dX3_readsLodger_0 : decode cX3_readsLodger 0 = .ok (.aload_n 0, 1) := dk_42 (dk_at dksX3_readsLodger_0 0 rfl rfl)
theorem dX3_readsLodger_1 : decode cX3_readsLodger 1 = .ok (.getfield 206, 3) := dk_180 0 206 (dk_at dksX3_readsLodger_0 1 rfl rfl)
theorem dX3_readsLodger_4 : decode cX3_readsLodger 4 = .ok (.bipush 6, 2) := dk_16 6 (dk_at dksX3_readsLodger_0 4 rfl rfl)
theorem dX3_readsLodger_6 : decode cX3_readsLodger 6 = .ok (.if_icmp .ne 8, 3) := dk_160 0 8 (dk_at dksX3_readsLodger_0 6 rfl rfl)
theorem dX3_readsLodger_9 : decode cX3_readsLodger 9 = .ok (.aload_n 0, 1) := dk_42 (dk_at dksX3_readsLodger_0 9 rfl rfl)
theorem dX3_readsLodger_10 : decode cX3_readsLodger 10 = .ok (.iconst 2, 1) := dk_5 (dk_at dksX3_readsLodger_0 10 rfl rfl)
theorem dX3_readsLodger_11 : decode cX3_readsLodger 11 = .ok (.invokevirtual 197, 3) := dk_182 0 197 (dk_at dksX3_readsLodger_0 11 rfl rfl)
theorem dX3_readsLodger_14 : decode cX3_readsLodger 14 = .ok (.aload_n 0, 1) := dk_42 (dk_at dksX3_readsLodger_0 14 rfl rfl)
theorem dX3_readsLodger_15 : decode cX3_readsLodger 15 = .ok (.invokevirtual 190, 3) := dk_182 0 190 (dk_at dksX3_readsLodger_0 15 rfl rfl)
theorem dX3_readsLodger_18 : decode cX3_readsLodger 18 = .ok (.ifCond .ne 4, 3) := dk_154 0 4 (dk_at dksX3_readsLodger_0 18 rfl rfl)
theorem dX3_readsLodger_21 : decode cX3_readsLodger 21 = .ok (.return_, 1) := dk_177 (dk_at dksX3_readsLodger_0 21 rfl rfl)
theorem dX3_readsLodger_22 : decode cX3_readsLodger 22 = .ok (.aload_n 0, 1) := dk_42 (dk_at dksX3_readsLodger_0 22 rfl rfl)
theorem dX3_readsLodger_23 : decode cX3_readsLodger 23 = .ok (.invokevirtual 194, 3) := dk_182 0 194 (dk_at dksX3_readsLodger_1 0 rfl rfl)
theorem dX3_readsLodger_26 : decode cX3_readsLodger 26 = .ok (.aload_n 0, 1) := dk_42 (dk_at dksX3_readsLodger_1 3 rfl rfl)
theorem dX3_readsLodger_27 : decode cX3_readsLodger 27 = .ok (.aload_n 0, 1) := dk_42 (dk_at dksX3_readsLodger_1 4 rfl rfl)
theorem dX3_readsLodger_28 : decode cX3_readsLodger 28 = .ok (.getfield 209, 3) := dk_180 0 209 (dk_at dksX3_readsLodger_1 5 rfl rfl)
theorem dX3_readsLodger_31 : decode cX3_readsLodger 31 = .ok (.invokevirtual 200, 3) := dk_182 0 200 (dk_at dksX3_readsLodger_1 8 rfl rfl)
theorem dX3_readsLodger_34 : decode cX3_readsLodger 34 = .ok (.ifCond .eq 21, 3) := dk_153 0 21 (dk_at dksX3_readsLodger_1 11 rfl rfl)
theorem dX3_readsLodger_37 : decode cX3_readsLodger 37 = .ok (.aload_n 0, 1) := dk_42 (dk_at dksX3_readsLodger_1 14 rfl rfl)
theorem dX3_readsLodger_38 : decode cX3_readsLodger 38 = .ok (.getfield 44, 3) := dk_180 0 44 (dk_at dksX3_readsLodger_1 15 rfl rfl)
theorem dX3_readsLodger_41 : decode cX3_readsLodger 41 = .ok (.aload_n 0, 1) := dk_42 (dk_at dksX3_readsLodger_1 18 rfl rfl)
theorem dX3_readsLodger_42 : decode cX3_readsLodger 42 = .ok (.getfield 161, 3) := dk_180 0 161 (dk_at dksX3_readsLodger_1 19 rfl rfl)
theorem dX3_readsLodger_45 : decode cX3_readsLodger 45 = .ok (.iaload, 1) := dk_46 (dk_at dksX3_readsLodger_1 22 rfl rfl)
theorem dX3_readsLodger_46 : decode cX3_readsLodger 46 = .ok (.iconst (-1), 1) := dk_2 (dk_at dksX3_readsLodger_1 23 rfl rfl)
theorem dX3_readsLodger_47 : decode cX3_readsLodger 47 = .ok (.if_icmp .eq 8, 3) := dk_159 0 8 (dk_at dksX3_readsLodger_2 0 rfl rfl)
theorem dX3_readsLodger_50 : decode cX3_readsLodger 50 = .ok (.aload_n 0, 1) := dk_42 (dk_at dksX3_readsLodger_2 3 rfl rfl)
theorem dX3_readsLodger_51 : decode cX3_readsLodger 51 = .ok (.iconst 4, 1) := dk_7 (dk_at dksX3_readsLodger_2 4 rfl rfl)
theorem dX3_readsLodger_52 : decode cX3_readsLodger 52 = .ok (.invokevirtual 197, 3) := dk_182 0 197 (dk_at dksX3_readsLodger_2 5 rfl rfl)
theorem dX3_readsLodger_55 : decode cX3_readsLodger 55 = .ok (.aload_n 0, 1) := dk_42 (dk_at dksX3_readsLodger_2 8 rfl rfl)
theorem dX3_readsLodger_56 : decode cX3_readsLodger 56 = .ok (.getfield 161, 3) := dk_180 0 161 (dk_at dksX3_readsLodger_2 9 rfl rfl)
theorem dX3_readsLodger_59 : decode cX3_readsLodger 59 = .ok (.istore_n 1, 1) := dk_60 (dk_at dksX3_readsLodger_2 12 rfl rfl)
theorem dX3_readsLodger_60 : decode cX3_readsLodger 60 = .ok (.aload_n 0, 1) := dk_42 (dk_at dksX3_readsLodger_2 13 rfl rfl)
theorem dX3_readsLodger_61 : decode cX3_readsLodger 61 = .ok (.invokevirtual 190, 3) := dk_182 0 190 (dk_at dksX3_readsLodger_2 14 rfl rfl)
theorem dX3_readsLodger_64 : decode cX3_readsLodger 64 = .ok (.ifCond .eq 7, 3) := dk_153 0 7 (dk_at dksX3_readsLodger_2 17 rfl rfl)
theorem dX3_readsLodger_67 : decode cX3_readsLodger 67 = .ok (.aload_n 0, 1) := dk_42 (dk_at dksX3_readsLodger_2 20 rfl rfl)
theorem dX3_readsLodger_68 : decode cX3_readsLodger 68 = .ok (.invokevirtual 194, 3) := dk_182 0 194 (dk_at dksX3_readsLodger_2 21 rfl rfl)
theorem dX3_readsLodger_71 : decode cX3_readsLodger 71 = .ok (.aload_n 0, 1) := dk_42 (dk_at dksX3_readsLodger_3 0 rfl rfl)
theorem dX3_readsLodger_72 : decode cX3_readsLodger 72 = .ok (.invokevirtual 190, 3) := dk_182 0 190 (dk_at dksX3_readsLodger_3 1 rfl rfl)
theorem dX3_readsLodger_75 : decode cX3_readsLodger 75 = .ok (.ifCond .eq 16, 3) := dk_153 0 16 (dk_at dksX3_readsLodger_3 4 rfl rfl)
theorem dX3_readsLodger_78 : decode cX3_readsLodger 78 = .ok (.aload_n 0, 1) := dk_42 (dk_at dksX3_readsLodger_3 7 rfl rfl)
theorem dX3_readsLodger_79 : decode cX3_readsLodger 79 = .ok (.bipush 6, 2) := dk_16 6 (dk_at dksX3_readsLodger_3 8 rfl rfl)
theorem dX3_readsLodger_81 : decode cX3_readsLodger 81 = .ok (.invokevirtual 203, 3) := dk_182 0 203 (dk_at dksX3_readsLodger_3 10 rfl rfl)
theorem dX3_readsLodger_84 : decode cX3_readsLodger 84 = .ok (.ifCond .eq 7, 3) := dk_153 0 7 (dk_at dksX3_readsLodger_3 13 rfl rfl)
theorem dX3_readsLodger_87 : decode cX3_readsLodger 87 = .ok (.iconst 1, 1) := dk_4 (dk_at dksX3_readsLodger_3 16 rfl rfl)
theorem dX3_readsLodger_88 : decode cX3_readsLodger 88 = .ok (.goto 4, 3) := dk_167 0 4 (dk_at dksX3_readsLodger_3 17 rfl rfl)
theorem dX3_readsLodger_91 : decode cX3_readsLodger 91 = .ok (.iconst 0, 1) := dk_3 (dk_at dksX3_readsLodger_3 20 rfl rfl)
theorem dX3_readsLodger_92 : decode cX3_readsLodger 92 = .ok (.istore_n 2, 1) := dk_61 (dk_at dksX3_readsLodger_3 21 rfl rfl)
theorem dX3_readsLodger_93 : decode cX3_readsLodger 93 = .ok (.aload_n 0, 1) := dk_42 (dk_at dksX3_readsLodger_3 22 rfl rfl)
theorem dX3_readsLodger_94 : decode cX3_readsLodger 94 = .ok (.invokevirtual 190, 3) := dk_182 0 190 (dk_at dksX3_readsLodger_4 0 rfl rfl)
theorem dX3_readsLodger_97 : decode cX3_readsLodger 97 = .ok (.ifCond .eq 16, 3) := dk_153 0 16 (dk_at dksX3_readsLodger_4 3 rfl rfl)
theorem dX3_readsLodger_100 : decode cX3_readsLodger 100 = .ok (.aload_n 0, 1) := dk_42 (dk_at dksX3_readsLodger_4 6 rfl rfl)
theorem dX3_readsLodger_101 : decode cX3_readsLodger 101 = .ok (.bipush 7, 2) := dk_16 7 (dk_at dksX3_readsLodger_4 7 rfl rfl)
theorem dX3_readsLodger_103 : decode cX3_readsLodger 103 = .ok (.invokevirtual 203, 3) := dk_182 0 203 (dk_at dksX3_readsLodger_4 9 rfl rfl)
theorem dX3_readsLodger_106 : decode cX3_readsLodger 106 = .ok (.ifCond .eq 7, 3) := dk_153 0 7 (dk_at dksX3_readsLodger_4 12 rfl rfl)
theorem dX3_readsLodger_109 : decode cX3_readsLodger 109 = .ok (.iconst 1, 1) := dk_4 (dk_at dksX3_readsLodger_4 15 rfl rfl)
theorem dX3_readsLodger_110 : decode cX3_readsLodger 110 = .ok (.goto 4, 3) := dk_167 0 4 (dk_at dksX3_readsLodger_4 16 rfl rfl)
theorem dX3_readsLodger_113 : decode cX3_readsLodger 113 = .ok (.iconst 0, 1) := dk_3 (dk_at dksX3_readsLodger_4 19 rfl rfl)
theorem dX3_readsLodger_114 : decode cX3_readsLodger 114 = .ok (.istore_n 3, 1) := dk_62 (dk_at dksX3_readsLodger_4 20 rfl rfl)
theorem dX3_readsLodger_115 : decode cX3_readsLodger 115 = .ok (.iload_n 2, 1) := dk_28 (dk_at dksX3_readsLodger_4 21 rfl rfl)
theorem dX3_readsLodger_116 : decode cX3_readsLodger 116 = .ok (.ifCond .ne 7, 3) := dk_154 0 7 (dk_at dksX3_readsLodger_5 0 rfl rfl)
theorem dX3_readsLodger_119 : decode cX3_readsLodger 119 = .ok (.iload_n 3, 1) := dk_29 (dk_at dksX3_readsLodger_5 3 rfl rfl)
theorem dX3_readsLodger_120 : decode cX3_readsLodger 120 = .ok (.ifCond .eq 7, 3) := dk_153 0 7 (dk_at dksX3_readsLodger_5 4 rfl rfl)
theorem dX3_readsLodger_123 : decode cX3_readsLodger 123 = .ok (.aload_n 0, 1) := dk_42 (dk_at dksX3_readsLodger_5 7 rfl rfl)
theorem dX3_readsLodger_124 : decode cX3_readsLodger 124 = .ok (.invokevirtual 194, 3) := dk_182 0 194 (dk_at dksX3_readsLodger_5 8 rfl rfl)
theorem dX3_readsLodger_127 : decode cX3_readsLodger 127 = .ok (.aload_n 0, 1) := dk_42 (dk_at dksX3_readsLodger_5 11 rfl rfl)
theorem dX3_readsLodger_128 : decode cX3_readsLodger 128 = .ok (.invokevirtual 190, 3) := dk_182 0 190 (dk_at dksX3_readsLodger_5 12 rfl rfl)
theorem dX3_readsLodger_131 : decode cX3_readsLodger 131 = .ok (.ifCond .ne 4, 3) := dk_154 0 4 (dk_at dksX3_readsLodger_5 15 rfl rfl)
theorem dX3_readsLodger_134 : decode cX3_readsLodger 134 = .ok (.return_, 1) := dk_177 (dk_at dksX3_readsLodger_5 18 rfl rfl)
theorem dX3_readsLodger_135 : decode cX3_readsLodger 135 = .ok (.aload_n 0, 1) := dk_42 (dk_at dksX3_readsLodger_5 19 rfl rfl)
theorem dX3_readsLodger_136 : decode cX3_readsLodger 136 = .ok (.getfield 47, 3) := dk_180 0 47 (dk_at dksX3_readsLodger_5 20 rfl rfl)
theorem dX3_readsLodger_139 : decode cX3_readsLodger 139 = .ok (.aload_n 0, 1) := dk_42 (dk_at dksX3_readsLodger_5 23 rfl rfl)
theorem dX3_readsLodger_140 : decode cX3_readsLodger 140 = .ok (.getfield 206, 3) := dk_180 0 206 (dk_at dksX3_readsLodger_6 0 rfl rfl)
theorem dX3_readsLodger_143 : decode cX3_readsLodger 143 = .ok (.iload_n 1, 1) := dk_27 (dk_at dksX3_readsLodger_6 3 rfl rfl)
theorem dX3_readsLodger_144 : decode cX3_readsLodger 144 = .ok (.iastore, 1) := dk_79 (dk_at dksX3_readsLodger_6 4 rfl rfl)
theorem dX3_readsLodger_145 : decode cX3_readsLodger 145 = .ok (.aload_n 0, 1) := dk_42 (dk_at dksX3_readsLodger_6 5 rfl rfl)
theorem dX3_readsLodger_146 : decode cX3_readsLodger 146 = .ok (.getfield 44, 3) := dk_180 0 44 (dk_at dksX3_readsLodger_6 6 rfl rfl)
theorem dX3_readsLodger_149 : decode cX3_readsLodger 149 = .ok (.iload_n 1, 1) := dk_27 (dk_at dksX3_readsLodger_6 9 rfl rfl)
theorem dX3_readsLodger_150 : decode cX3_readsLodger 150 = .ok (.aload_n 0, 1) := dk_42 (dk_at dksX3_readsLodger_6 10 rfl rfl)
theorem dX3_readsLodger_151 : decode cX3_readsLodger 151 = .ok (.getfield 206, 3) := dk_180 0 206 (dk_at dksX3_readsLodger_6 11 rfl rfl)
theorem dX3_readsLodger_154 : decode cX3_readsLodger 154 = .ok (.iastore, 1) := dk_79 (dk_at dksX3_readsLodger_6 14 rfl rfl)
theorem dX3_readsLodger_155 : decode cX3_readsLodger 155 = .ok (.aload_n 0, 1) := dk_42 (dk_at dksX3_readsLodger_6 15 rfl rfl)
theorem dX3_readsLodger_156 : decode cX3_readsLodger 156 = .ok (.getfield 50, 3) := dk_180 0 50 (dk_at dksX3_readsLodger_6 16 rfl rfl)
theorem dX3_readsLodger_159 : decode cX3_readsLodger 159 = .ok (.iconst 2, 1) := dk_5 (dk_at dksX3_readsLodger_6 19 rfl rfl)
theorem dX3_readsLodger_160 : decode cX3_readsLodger 160 = .ok (.aload_n 0, 1) := dk_42 (dk_at dksX3_readsLodger_6 20 rfl rfl)
theorem dX3_readsLodger_161 : decode cX3_readsLodger 161 = .ok (.getfield 206, 3) := dk_180 0 206 (dk_at dksX3_readsLodger_6 21 rfl rfl)
theorem dX3_readsLodger_164 : decode cX3_readsLodger 164 = .ok (.imul, 1) := dk_104 (dk_at dksX3_readsLodger_7 0 rfl rfl)
theorem dX3_readsLodger_165 : decode cX3_readsLodger 165 = .ok (.iload_n 3, 1) := dk_29 (dk_at dksX3_readsLodger_7 1 rfl rfl)
theorem dX3_readsLodger_166 : decode cX3_readsLodger 166 = .ok (.ifCond .eq 7, 3) := dk_153 0 7 (dk_at dksX3_readsLodger_7 2 rfl rfl)
theorem dX3_readsLodger_169 : decode cX3_readsLodger 169 = .ok (.iconst 0, 1) := dk_3 (dk_at dksX3_readsLodger_7 5 rfl rfl)
theorem dX3_readsLodger_170 : decode cX3_readsLodger 170 = .ok (.goto 4, 3) := dk_167 0 4 (dk_at dksX3_readsLodger_7 6 rfl rfl)
theorem dX3_readsLodger_173 : decode cX3_readsLodger 173 = .ok (.iconst 1, 1) := dk_4 (dk_at dksX3_readsLodger_7 9 rfl rfl)
theorem dX3_readsLodger_174 : decode cX3_readsLodger 174 = .ok (.iastore, 1) := dk_79 (dk_at dksX3_readsLodger_7 10 rfl rfl)
theorem dX3_readsLodger_175 : decode cX3_readsLodger 175 = .ok (.aload_n 0, 1) := dk_42 (dk_at dksX3_readsLodger_7 11 rfl rfl)
theorem dX3_readsLodger_176 : decode cX3_readsLodger 176 = .ok (.getfield 50, 3) := dk_180 0 50 (dk_at dksX3_readsLodger_7 12 rfl rfl)
theorem dX3_readsLodger_179 : decode cX3_readsLodger 179 = .ok (.iconst 2, 1) := dk_5 (dk_at dksX3_readsLodger_7 15 rfl rfl)
theorem dX3_readsLodger_180 : decode cX3_readsLodger 180 = .ok (.aload_n 0, 1) := dk_42 (dk_at dksX3_readsLodger_7 16 rfl rfl)
theorem dX3_readsLodger_181 : decode cX3_readsLodger 181 = .ok (.getfield 206, 3) := dk_180 0 206 (dk_at dksX3_readsLodger_7 17 rfl rfl)
theorem dX3_readsLodger_184 : decode cX3_readsLodger 184 = .ok (.imul, 1) := dk_104 (dk_at dksX3_readsLodger_7 20 rfl rfl)
theorem dX3_readsLodger_185 : decode cX3_readsLodger 185 = .ok (.iconst 1, 1) := dk_4 (dk_at dksX3_readsLodger_7 21 rfl rfl)
theorem dX3_readsLodger_186 : decode cX3_readsLodger 186 = .ok (.iadd, 1) := dk_96 (dk_at dksX3_readsLodger_7 22 rfl rfl)
theorem dX3_readsLodger_187 : decode cX3_readsLodger 187 = .ok (.iload_n 2, 1) := dk_28 (dk_at dksX3_readsLodger_7 23 rfl rfl)
theorem dX3_readsLodger_188 : decode cX3_readsLodger 188 = .ok (.ifCond .eq 7, 3) := dk_153 0 7 (dk_at dksX3_readsLodger_8 0 rfl rfl)
theorem dX3_readsLodger_191 : decode cX3_readsLodger 191 = .ok (.iconst 0, 1) := dk_3 (dk_at dksX3_readsLodger_8 3 rfl rfl)
theorem dX3_readsLodger_192 : decode cX3_readsLodger 192 = .ok (.goto 4, 3) := dk_167 0 4 (dk_at dksX3_readsLodger_8 4 rfl rfl)
theorem dX3_readsLodger_195 : decode cX3_readsLodger 195 = .ok (.iconst 1, 1) := dk_4 (dk_at dksX3_readsLodger_8 7 rfl rfl)
theorem dX3_readsLodger_196 : decode cX3_readsLodger 196 = .ok (.iastore, 1) := dk_79 (dk_at dksX3_readsLodger_8 8 rfl rfl)
theorem dX3_readsLodger_197 : decode cX3_readsLodger 197 = .ok (.aload_n 0, 1) := dk_42 (dk_at dksX3_readsLodger_8 9 rfl rfl)
theorem dX3_readsLodger_198 : decode cX3_readsLodger 198 = .ok (.dup, 1) := dk_89 (dk_at dksX3_readsLodger_8 10 rfl rfl)
theorem dX3_readsLodger_199 : decode cX3_readsLodger 199 = .ok (.getfield 206, 3) := dk_180 0 206 (dk_at dksX3_readsLodger_8 11 rfl rfl)
theorem dX3_readsLodger_202 : decode cX3_readsLodger 202 = .ok (.iconst 1, 1) := dk_4 (dk_at dksX3_readsLodger_8 14 rfl rfl)
theorem dX3_readsLodger_203 : decode cX3_readsLodger 203 = .ok (.iadd, 1) := dk_96 (dk_at dksX3_readsLodger_8 15 rfl rfl)
theorem dX3_readsLodger_204 : decode cX3_readsLodger 204 = .ok (.putfield 206, 3) := dk_181 0 206 (dk_at dksX3_readsLodger_8 16 rfl rfl)
theorem dX3_readsLodger_207 : decode cX3_readsLodger 207 = .ok (.return_, 1) := dk_177 (dk_at dksX3_readsLodger_8 19 rfl rfl)
def dkwX3_amongHere_2 : List UInt8 := [161, 0, 8, 42, 6, 182, 0, 197, 42, 182, 0, 190, 172]
abbrev dktX3_amongHere_2 : List UInt8 := dkwX3_amongHere_2 ++ []
def dkwX3_amongHere_1 : List UInt8 := [167, 0, 32, 42, 180, 0, 174, 6, 164, 0, 11, 42, 5, 182, 0, 197, 167, 0, 16, 42, 180, 0, 161, 27]
abbrev dktX3_amongHere_1 : List UInt8 := dkwX3_amongHere_1 ++ dktX3_amongHere_2
def dkwX3_amongHere_0 : List UInt8 := [42, 182, 0, 190, 154, 0, 5, 3, 172, 42, 180, 0, 164, 5, 159, 0, 11, 42, 4, 182, 0, 197]
abbrev dktX3_amongHere_0 : List UInt8 := dkwX3_amongHere_0 ++ dktX3_amongHere_1
theorem dksX3_amongHere_0 : cX3_amongHere.data.toList.drop 0 = dktX3_amongHere_0 := by decide +kernel
theorem dksX3_amongHere_1 : cX3_amongHere.data.toList.drop 22 = dktX3_amongHere_1 := dk_seg dksX3_amongHere_0 22 rfl rfl
theorem dksX3_amongHere_2 : cX3_amongHere.data.toList.drop 46 = dktX3_amongHere_2 := dk_seg dksX3_amongHere_1 24 rfl rfl
theorem dX3_amongHere_0 : decode cX3_amongHere 0 = .ok (.aload_n 0, 1) := dk_42 (dk_at dksX3_amongHere_0 0 rfl rfl)
theorem dX3_amongHere_1 : decode cX3_amongHere 1 = .ok (.invokevirtual 190, 3) := dk_182 0 190 (dk_at dksX3_amongHere_0 1 rfl rfl)
theorem dX3_amongHere_4 : decode cX3_amongHere 4 = .ok (.ifCond .ne 5, 3) := dk_154 0 5 (dk_at dksX3_amongHere_0 4 rfl rfl)
theorem dX3_amongHere_7 : decode cX3_amongHere 7 = .ok (.iconst 0, 1) := dk_3 (dk_at dksX3_amongHere_0 7 rfl rfl)
theorem dX3_amongHere_8 : decode cX3_amongHere 8 = .ok (.ireturn, 1) := dk_172 (dk_at dksX3_amongHere_0 8 rfl rfl)
theorem dX3_amongHere_9 : decode cX3_amongHere 9 = .ok (.aload_n 0, 1) := dk_42 (dk_at dksX3_amongHere_0 9 rfl rfl)
theorem dX3_amongHere_10 : decode cX3_amongHere 10 = .ok (.getfield 164, 3) := dk_180 0 164 (dk_at dksX3_amongHere_0 10 rfl rfl)
theorem dX3_amongHere_13 : decode cX3_amongHere 13 = .ok (.iconst 2, 1) := dk_5 (dk_at dksX3_amongHere_0 13 rfl rfl)
theorem dX3_amongHere_14 : decode cX3_amongHere 14 = .ok (.if_icmp .eq 11, 3) := dk_159 0 11 (dk_at dksX3_amongHere_0 14 rfl rfl)
theorem dX3_amongHere_17 : decode cX3_amongHere 17 = .ok (.aload_n 0, 1) := dk_42 (dk_at dksX3_amongHere_0 17 rfl rfl)
theorem dX3_amongHere_18 : decode cX3_amongHere 18 = .ok (.iconst 1, 1) := dk_4 (dk_at dksX3_amongHere_0 18 rfl rfl)
theorem dX3_amongHere_19 : decode cX3_amongHere 19 = .ok (.invokevirtual 197, 3) := dk_182 0 197 (dk_at dksX3_amongHere_0 19 rfl rfl)
theorem dX3_amongHere_22 : decode cX3_amongHere 22 = .ok (.goto 32, 3) := dk_167 0 32 (dk_at dksX3_amongHere_1 0 rfl rfl)
theorem dX3_amongHere_25 : decode cX3_amongHere 25 = .ok (.aload_n 0, 1) := dk_42 (dk_at dksX3_amongHere_1 3 rfl rfl)
theorem dX3_amongHere_26 : decode cX3_amongHere 26 = .ok (.getfield 174, 3) := dk_180 0 174 (dk_at dksX3_amongHere_1 4 rfl rfl)
theorem dX3_amongHere_29 : decode cX3_amongHere 29 = .ok (.iconst 3, 1) := dk_6 (dk_at dksX3_amongHere_1 7 rfl rfl)
theorem dX3_amongHere_30 : decode cX3_amongHere 30 = .ok (.if_icmp .le 11, 3) := dk_164 0 11 (dk_at dksX3_amongHere_1 8 rfl rfl)
theorem dX3_amongHere_33 : decode cX3_amongHere 33 = .ok (.aload_n 0, 1) := dk_42 (dk_at dksX3_amongHere_1 11 rfl rfl)
theorem dX3_amongHere_34 : decode cX3_amongHere 34 = .ok (.iconst 2, 1) := dk_5 (dk_at dksX3_amongHere_1 12 rfl rfl)
theorem dX3_amongHere_35 : decode cX3_amongHere 35 = .ok (.invokevirtual 197, 3) := dk_182 0 197 (dk_at dksX3_amongHere_1 13 rfl rfl)
theorem dX3_amongHere_38 : decode cX3_amongHere 38 = .ok (.goto 16, 3) := dk_167 0 16 (dk_at dksX3_amongHere_1 16 rfl rfl)
theorem dX3_amongHere_41 : decode cX3_amongHere 41 = .ok (.aload_n 0, 1) := dk_42 (dk_at dksX3_amongHere_1 19 rfl rfl)
theorem dX3_amongHere_42 : decode cX3_amongHere 42 = .ok (.getfield 161, 3) := dk_180 0 161 (dk_at dksX3_amongHere_1 20 rfl rfl)
theorem dX3_amongHere_45 : decode cX3_amongHere 45 = .ok (.iload_n 1, 1) := dk_27 (dk_at dksX3_amongHere_1 23 rfl rfl)
theorem dX3_amongHere_46 : decode cX3_amongHere 46 = .ok (.if_icmp .lt 8, 3) := dk_161 0 8 (dk_at dksX3_amongHere_2 0 rfl rfl)
theorem dX3_amongHere_49 : decode cX3_amongHere 49 = .ok (.aload_n 0, 1) := dk_42 (dk_at dksX3_amongHere_2 3 rfl rfl)
theorem dX3_amongHere_50 : decode cX3_amongHere 50 = .ok (.iconst 3, 1) := dk_6 (dk_at dksX3_amongHere_2 4 rfl rfl)
theorem dX3_amongHere_51 : decode cX3_amongHere 51 = .ok (.invokevirtual 197, 3) := dk_182 0 197 (dk_at dksX3_amongHere_2 5 rfl rfl)
theorem dX3_amongHere_54 : decode cX3_amongHere 54 = .ok (.aload_n 0, 1) := dk_42 (dk_at dksX3_amongHere_2 8 rfl rfl)
theorem dX3_amongHere_55 : decode cX3_amongHere 55 = .ok (.invokevirtual 190, 3) := dk_182 0 190 (dk_at dksX3_amongHere_2 9 rfl rfl)
theorem dX3_amongHere_58 : decode cX3_amongHere 58 = .ok (.ireturn, 1) := dk_172 (dk_at dksX3_amongHere_2 12 rfl rfl)
def dkwX3_among_1 : List UInt8 := [42, 182, 0, 194, 28, 172]
abbrev dktX3_among_1 : List UInt8 := dkwX3_among_1 ++ []
def dkwX3_among_0 : List UInt8 := [42, 27, 182, 0, 200, 153, 0, 10, 42, 180, 0, 161, 167, 0, 4, 3, 61, 42, 182, 0, 190, 153, 0, 7]
abbrev dktX3_among_0 : List UInt8 := dkwX3_among_0 ++ dktX3_among_1
theorem dksX3_among_0 : cX3_among.data.toList.drop 0 = dktX3_among_0 := by decide +kernel
theorem dksX3_among_1 : cX3_among.data.toList.drop 24 = dktX3_among_1 := dk_seg dksX3_among_0 24 rfl rfl
theorem dX3_among_0 : decode cX3_among 0 = .ok (.aload_n 0, 1) := dk_42 (dk_at dksX3_among_0 0 rfl rfl)
theorem dX3_among_1 : decode cX3_among 1 = .ok (.iload_n 1, 1) := dk_27 (dk_at dksX3_among_0 1 rfl rfl)
theorem dX3_among_2 : decode cX3_among 2 = .ok (.invokevirtual 200, 3) := dk_182 0 200 (dk_at dksX3_among_0 2 rfl rfl)
theorem dX3_among_5 : decode cX3_among 5 = .ok (.ifCond .eq 10, 3) := dk_153 0 10 (dk_at dksX3_among_0 5 rfl rfl)
theorem dX3_among_8 : decode cX3_among 8 = .ok (.aload_n 0, 1) := dk_42 (dk_at dksX3_among_0 8 rfl rfl)
theorem dX3_among_9 : decode cX3_among 9 = .ok (.getfield 161, 3) := dk_180 0 161 (dk_at dksX3_among_0 9 rfl rfl)
theorem dX3_among_12 : decode cX3_among 12 = .ok (.goto 4, 3) := dk_167 0 4 (dk_at dksX3_among_0 12 rfl rfl)
theorem dX3_among_15 : decode cX3_among 15 = .ok (.iconst 0, 1) := dk_3 (dk_at dksX3_among_0 15 rfl rfl)
theorem dX3_among_16 : decode cX3_among 16 = .ok (.istore_n 2, 1) := dk_61 (dk_at dksX3_among_0 16 rfl rfl)
theorem dX3_among_17 : decode cX3_among 17 = .ok (.aload_n 0, 1) := dk_42 (dk_at dksX3_among_0 17 rfl rfl)
theorem dX3_among_18 : decode cX3_among 18 = .ok (.invokevirtual 190, 3) := dk_182 0 190 (dk_at dksX3_among_0 18 rfl rfl)
theorem dX3_among_21 : decode cX3_among 21 = .ok (.ifCond .eq 7, 3) := dk_153 0 7 (dk_at dksX3_among_0 21 rfl rfl)
theorem dX3_among_24 : decode cX3_among 24 = .ok (.aload_n 0, 1) := dk_42 (dk_at dksX3_among_1 0 rfl rfl)
theorem dX3_among_25 : decode cX3_among 25 = .ok (.invokevirtual 194, 3) := dk_182 0 194 (dk_at dksX3_among_1 1 rfl rfl)
theorem dX3_among_28 : decode cX3_among 28 = .ok (.iload_n 2, 1) := dk_28 (dk_at dksX3_among_1 4 rfl rfl)
theorem dX3_among_29 : decode cX3_among 29 = .ok (.ireturn, 1) := dk_172 (dk_at dksX3_among_1 5 rfl rfl)
def dkwX3_readsMay_7 : List UInt8 := [4, 29, 120, 128, 79, 132, 6, 1, 167, 255, 228, 42, 89, 180, 0, 212, 4, 96, 181, 0, 212, 177]
abbrev dktX3_readsMay_7 : List UInt8 := dkwX3_readsMay_7 ++ []
def dkwX3_readsMay_6 : List UInt8 := [21, 4, 54, 6, 21, 6, 21, 5, 163, 0, 27, 42, 180, 0, 59, 16, 24, 27, 104, 21, 6, 96, 92, 46]
abbrev dktX3_readsMay_6 : List UInt8 := dkwX3_readsMay_6 ++ dktX3_readsMay_7
def dkwX3_readsMay_5 : List UInt8 := [182, 0, 226, 54, 4, 42, 21, 4, 16, 23, 182, 0, 226, 54, 5, 42, 182, 0, 190, 154, 0, 4, 177]
abbrev dktX3_readsMay_5 : List UInt8 := dkwX3_readsMay_5 ++ dktX3_readsMay_6
def dkwX3_readsMay_4 : List UInt8 := [7, 42, 180, 0, 161, 96, 62, 42, 182, 0, 190, 153, 0, 7, 42, 182, 0, 194, 42, 3, 16, 23]
abbrev dktX3_readsMay_4 : List UInt8 := dkwX3_readsMay_4 ++ dktX3_readsMay_5
def dkwX3_readsMay_3 : List UInt8 := [182, 0, 200, 153, 0, 21, 42, 180, 0, 161, 42, 180, 0, 47, 27, 46, 160, 0, 8, 42, 7, 182, 0, 197]
abbrev dktX3_readsMay_3 : List UInt8 := dkwX3_readsMay_3 ++ dktX3_readsMay_4
def dkwX3_readsMay_2 : List UInt8 := [159, 0, 7, 4, 167, 0, 4, 3, 182, 0, 222, 28, 62, 28, 7, 160, 0, 50, 42, 42, 180, 0, 209]
abbrev dktX3_readsMay_2 : List UInt8 := dkwX3_readsMay_2 ++ dktX3_readsMay_3
def dkwX3_readsMay_1 : List UInt8 := [182, 0, 194, 42, 42, 180, 0, 206, 182, 0, 215, 60, 42, 3, 7, 182, 0, 218, 61, 42, 28, 2]
abbrev dktX3_readsMay_1 : List UInt8 := dkwX3_readsMay_1 ++ dktX3_readsMay_2
def dkwX3_readsMay_0 : List UInt8 := [42, 180, 0, 212, 16, 40, 160, 0, 8, 42, 5, 182, 0, 197, 42, 182, 0, 190, 154, 0, 4, 177, 42]
abbrev dktX3_readsMay_0 : List UInt8 := dkwX3_readsMay_0 ++ dktX3_readsMay_1
theorem dksX3_readsMay_0 : cX3_readsMay.data.toList.drop 0 = dktX3_readsMay_0 := by decide +kernel
theorem dksX3_readsMay_1 : cX3_readsMay.data.toList.drop 23 = dktX3_readsMay_1 := dk_seg dksX3_readsMay_0 23 rfl rfl
theorem dksX3_readsMay_2 : cX3_readsMay.data.toList.drop 45 = dktX3_readsMay_2 := dk_seg dksX3_readsMay_1 22 rfl rfl
theorem dksX3_readsMay_3 : cX3_readsMay.data.toList.drop 68 = dktX3_readsMay_3 := dk_seg dksX3_readsMay_2 23 rfl rfl
theorem dksX3_readsMay_4 : cX3_readsMay.data.toList.drop 92 = dktX3_readsMay_4 := dk_seg dksX3_readsMay_3 24 rfl rfl
theorem dksX3_readsMay_5 : cX3_readsMay.data.toList.drop 114 = dktX3_readsMay_5 := dk_seg dksX3_readsMay_4 22 rfl rfl
theorem dksX3_readsMay_6 : cX3_readsMay.data.toList.drop 137 = dktX3_readsMay_6 := dk_seg dksX3_readsMay_5 23 rfl rfl
theorem dksX3_readsMay_7 : cX3_readsMay.data.toList.drop 161 = dktX3_readsMay_7 := dk_seg dksX3_readsMay_6 24 rfl rfl
theorem dX3_readsMay_0 : decode cX3_readsMay 0 = .ok (.aload_n 0, 1) := dk_42 (dk_at dksX3_readsMay_0 0 rfl rfl)
theorem dX3_readsMay_1 : decode cX3_readsMay 1 = .ok (.getfield 212, 3) := dk_180 0 212 (dk_at dksX3_readsMay_0 1 rfl rfl)
theorem dX3_readsMay_4 : decode cX3_readsMay 4 = .ok (.bipush 40, 2) := dk_16 40 (dk_at dksX3_readsMay_0 4 rfl rfl)
theorem dX3_readsMay_6 : decode cX3_readsMay 6 = .ok (.if_icmp .ne 8, 3) := dk_160 0 8 (dk_at dksX3_readsMay_0 6 rfl rfl)
theorem dX3_readsMay_9 : decode cX3_readsMay 9 = .ok (.aload_n 0, 1) := dk_42 (dk_at dksX3_readsMay_0 9 rfl rfl)
theorem dX3_readsMay_10 : decode cX3_readsMay 10 = .ok (.iconst 2, 1) := dk_5 (dk_at dksX3_readsMay_0 10 rfl rfl)
theorem dX3_readsMay_11 : decode cX3_readsMay 11 = .ok (.invokevirtual 197, 3) := dk_182 0 197 (dk_at dksX3_readsMay_0 11 rfl rfl)
theorem dX3_readsMay_14 : decode cX3_readsMay 14 = .ok (.aload_n 0, 1) := dk_42 (dk_at dksX3_readsMay_0 14 rfl rfl)
theorem dX3_readsMay_15 : decode cX3_readsMay 15 = .ok (.invokevirtual 190, 3) := dk_182 0 190 (dk_at dksX3_readsMay_0 15 rfl rfl)
theorem dX3_readsMay_18 : decode cX3_readsMay 18 = .ok (.ifCond .ne 4, 3) := dk_154 0 4 (dk_at dksX3_readsMay_0 18 rfl rfl)
theorem dX3_readsMay_21 : decode cX3_readsMay 21 = .ok (.return_, 1) := dk_177 (dk_at dksX3_readsMay_0 21 rfl rfl)
theorem dX3_readsMay_22 : decode cX3_readsMay 22 = .ok (.aload_n 0, 1) := dk_42 (dk_at dksX3_readsMay_0 22 rfl rfl)
theorem dX3_readsMay_23 : decode cX3_readsMay 23 = .ok (.invokevirtual 194, 3) := dk_182 0 194 (dk_at dksX3_readsMay_1 0 rfl rfl)
theorem dX3_readsMay_26 : decode cX3_readsMay 26 = .ok (.aload_n 0, 1) := dk_42 (dk_at dksX3_readsMay_1 3 rfl rfl)
theorem dX3_readsMay_27 : decode cX3_readsMay 27 = .ok (.aload_n 0, 1) := dk_42 (dk_at dksX3_readsMay_1 4 rfl rfl)
theorem dX3_readsMay_28 : decode cX3_readsMay 28 = .ok (.getfield 206, 3) := dk_180 0 206 (dk_at dksX3_readsMay_1 5 rfl rfl)
theorem dX3_readsMay_31 : decode cX3_readsMay 31 = .ok (.invokevirtual 215, 3) := dk_182 0 215 (dk_at dksX3_readsMay_1 8 rfl rfl)
theorem dX3_readsMay_34 : decode cX3_readsMay 34 = .ok (.istore_n 1, 1) := dk_60 (dk_at dksX3_readsMay_1 11 rfl rfl)
theorem dX3_readsMay_35 : decode cX3_readsMay 35 = .ok (.aload_n 0, 1) := dk_42 (dk_at dksX3_readsMay_1 12 rfl rfl)
theorem dX3_readsMay_36 : decode cX3_readsMay 36 = .ok (.iconst 0, 1) := dk_3 (dk_at dksX3_readsMay_1 13 rfl rfl)
theorem dX3_readsMay_37 : decode cX3_readsMay 37 = .ok (.iconst 4, 1) := dk_7 (dk_at dksX3_readsMay_1 14 rfl rfl)
theorem dX3_readsMay_38 : decode cX3_readsMay 38 = .ok (.invokevirtual 218, 3) := dk_182 0 218 (dk_at dksX3_readsMay_1 15 rfl rfl)
theorem dX3_readsMay_41 : decode cX3_readsMay 41 = .ok (.istore_n 2, 1) := dk_61 (dk_at dksX3_readsMay_1 18 rfl rfl)
theorem dX3_readsMay_42 : decode cX3_readsMay 42 = .ok (.aload_n 0, 1) := dk_42 (dk_at dksX3_readsMay_1 19 rfl rfl)
theorem dX3_readsMay_43 : decode cX3_readsMay 43 = .ok (.iload_n 2, 1) := dk_28 (dk_at dksX3_readsMay_1 20 rfl rfl)
theorem dX3_readsMay_44 : decode cX3_readsMay 44 = .ok (.iconst (-1), 1) := dk_2 (dk_at dksX3_readsMay_1 21 rfl rfl)
theorem dX3_readsMay_45 : decode cX3_readsMay 45 = .ok (.if_icmp .eq 7, 3) := dk_159 0 7 (dk_at dksX3_readsMay_2 0 rfl rfl)
theorem dX3_readsMay_48 : decode cX3_readsMay 48 = .ok (.iconst 1, 1) := dk_4 (dk_at dksX3_readsMay_2 3 rfl rfl)
theorem dX3_readsMay_49 : decode cX3_readsMay 49 = .ok (.goto 4, 3) := dk_167 0 4 (dk_at dksX3_readsMay_2 4 rfl rfl)
theorem dX3_readsMay_52 : decode cX3_readsMay 52 = .ok (.iconst 0, 1) := dk_3 (dk_at dksX3_readsMay_2 7 rfl rfl)
theorem dX3_readsMay_53 : decode cX3_readsMay 53 = .ok (.invokevirtual 222, 3) := dk_182 0 222 (dk_at dksX3_readsMay_2 8 rfl rfl)
theorem dX3_readsMay_56 : decode cX3_readsMay 56 = .ok (.iload_n 2, 1) := dk_28 (dk_at dksX3_readsMay_2 11 rfl rfl)
theorem dX3_readsMay_57 : decode cX3_readsMay 57 = .ok (.istore_n 3, 1) := dk_62 (dk_at dksX3_readsMay_2 12 rfl rfl)
theorem dX3_readsMay_58 : decode cX3_readsMay 58 = .ok (.iload_n 2, 1) := dk_28 (dk_at dksX3_readsMay_2 13 rfl rfl)
theorem dX3_readsMay_59 : decode cX3_readsMay 59 = .ok (.iconst 4, 1) := dk_7 (dk_at dksX3_readsMay_2 14 rfl rfl)
theorem dX3_readsMay_60 : decode cX3_readsMay 60 = .ok (.if_icmp .ne 50, 3) := dk_160 0 50 (dk_at dksX3_readsMay_2 15 rfl rfl)
theorem dX3_readsMay_63 : decode cX3_readsMay 63 = .ok (.aload_n 0, 1) := dk_42 (dk_at dksX3_readsMay_2 18 rfl rfl)
theorem dX3_readsMay_64 : decode cX3_readsMay 64 = .ok (.aload_n 0, 1) := dk_42 (dk_at dksX3_readsMay_2 19 rfl rfl)
theorem dX3_readsMay_65 : decode cX3_readsMay 65 = .ok (.getfield 209, 3) := dk_180 0 209 (dk_at dksX3_readsMay_2 20 rfl rfl)
theorem dX3_readsMay_68 : decode cX3_readsMay 68 = .ok (.invokevirtual 200, 3) := dk_182 0 200 (dk_at dksX3_readsMay_3 0 rfl rfl)
theorem dX3_readsMay_71 : decode cX3_readsMay 71 = .ok (.ifCond .eq 21, 3) := dk_153 0 21 (dk_at dksX3_readsMay_3 3 rfl rfl)
theorem dX3_readsMay_74 : decode cX3_readsMay 74 = .ok (.aload_n 0, 1) := dk_42 (dk_at dksX3_readsMay_3 6 rfl rfl)
theorem dX3_readsMay_75 : decode cX3_readsMay 75 = .ok (.getfield 161, 3) := dk_180 0 161 (dk_at dksX3_readsMay_3 7 rfl rfl)
theorem dX3_readsMay_78 : decode cX3_readsMay 78 = .ok (.aload_n 0, 1) := dk_42 (dk_at dksX3_readsMay_3 10 rfl rfl)
theorem dX3_readsMay_79 : decode cX3_readsMay 79 = .ok (.getfield 47, 3) := dk_180 0 47 (dk_at dksX3_readsMay_3 11 rfl rfl)
theorem dX3_readsMay_82 : decode cX3_readsMay 82 = .ok (.iload_n 1, 1) := dk_27 (dk_at dksX3_readsMay_3 14 rfl rfl)
theorem dX3_readsMay_83 : decode cX3_readsMay 83 = .ok (.iaload, 1) := dk_46 (dk_at dksX3_readsMay_3 15 rfl rfl)
theorem dX3_readsMay_84 : decode cX3_readsMay 84 = .ok (.if_icmp .ne 8, 3) := dk_160 0 8 (dk_at dksX3_readsMay_3 16 rfl rfl)
theorem dX3_readsMay_87 : decode cX3_readsMay 87 = .ok (.aload_n 0, 1) := dk_42 (dk_at dksX3_readsMay_3 19 rfl rfl)
theorem dX3_readsMay_88 : decode cX3_readsMay 88 = .ok (.iconst 4, 1) := dk_7 (dk_at dksX3_readsMay_3 20 rfl rfl)
theorem dX3_readsMay_89 : decode cX3_readsMay 89 = .ok (.invokevirtual 197, 3) := dk_182 0 197 (dk_at dksX3_readsMay_3 21 rfl rfl)
theorem dX3_readsMay_92 : decode cX3_readsMay 92 = .ok (.iconst 4, 1) := dk_7 (dk_at dksX3_readsMay_4 0 rfl rfl)
theorem dX3_readsMay_93 : decode cX3_readsMay 93 = .ok (.aload_n 0, 1) := dk_42 (dk_at dksX3_readsMay_4 1 rfl rfl)
theorem dX3_readsMay_94 : decode cX3_readsMay 94 = .ok (.getfield 161, 3) := dk_180 0 161 (dk_at dksX3_readsMay_4 2 rfl rfl)
theorem dX3_readsMay_97 : decode cX3_readsMay 97 = .ok (.iadd, 1) := dk_96 (dk_at dksX3_readsMay_4 5 rfl rfl)
theorem dX3_readsMay_98 : decode cX3_readsMay 98 = .ok (.istore_n 3, 1) := dk_62 (dk_at dksX3_readsMay_4 6 rfl rfl)
theorem dX3_readsMay_99 : decode cX3_readsMay 99 = .ok (.aload_n 0, 1) := dk_42 (dk_at dksX3_readsMay_4 7 rfl rfl)
theorem dX3_readsMay_100 : decode cX3_readsMay 100 = .ok (.invokevirtual 190, 3) := dk_182 0 190 (dk_at dksX3_readsMay_4 8 rfl rfl)
theorem dX3_readsMay_103 : decode cX3_readsMay 103 = .ok (.ifCond .eq 7, 3) := dk_153 0 7 (dk_at dksX3_readsMay_4 11 rfl rfl)
theorem dX3_readsMay_106 : decode cX3_readsMay 106 = .ok (.aload_n 0, 1) := dk_42 (dk_at dksX3_readsMay_4 14 rfl rfl)
theorem dX3_readsMay_107 : decode cX3_readsMay 107 = .ok (.invokevirtual 194, 3) := dk_182 0 194 (dk_at dksX3_readsMay_4 15 rfl rfl)
theorem dX3_readsMay_110 : decode cX3_readsMay 110 = .ok (.aload_n 0, 1) := dk_42 (dk_at dksX3_readsMay_4 18 rfl rfl)
theorem dX3_readsMay_111 : decode cX3_readsMay 111 = .ok (.iconst 0, 1) := dk_3 (dk_at dksX3_readsMay_4 19 rfl rfl)
theorem dX3_readsMay_112 : decode cX3_readsMay 112 = .ok (.bipush 23, 2) := dk_16 23 (dk_at dksX3_readsMay_4 20 rfl rfl)
theorem dX3_readsMay_114 : decode cX3_readsMay 114 = .ok (.invokevirtual 226, 3) := dk_182 0 226 (dk_at dksX3_readsMay_5 0 rfl rfl)
theorem dX3_readsMay_117 : decode cX3_readsMay 117 = .ok (.istore 4, 2) := dk_54 4 (dk_at dksX3_readsMay_5 3 rfl rfl)
theorem dX3_readsMay_119 : decode cX3_readsMay 119 = .ok (.aload_n 0, 1) := dk_42 (dk_at dksX3_readsMay_5 5 rfl rfl)
theorem dX3_readsMay_120 : decode cX3_readsMay 120 = .ok (.iload 4, 2) := dk_21 4 (dk_at dksX3_readsMay_5 6 rfl rfl)
theorem dX3_readsMay_122 : decode cX3_readsMay 122 = .ok (.bipush 23, 2) := dk_16 23 (dk_at dksX3_readsMay_5 8 rfl rfl)
theorem dX3_readsMay_124 : decode cX3_readsMay 124 = .ok (.invokevirtual 226, 3) := dk_182 0 226 (dk_at dksX3_readsMay_5 10 rfl rfl)
theorem dX3_readsMay_127 : decode cX3_readsMay 127 = .ok (.istore 5, 2) := dk_54 5 (dk_at dksX3_readsMay_5 13 rfl rfl)
theorem dX3_readsMay_129 : decode cX3_readsMay 129 = .ok (.aload_n 0, 1) := dk_42 (dk_at dksX3_readsMay_5 15 rfl rfl)
theorem dX3_readsMay_130 : decode cX3_readsMay 130 = .ok (.invokevirtual 190, 3) := dk_182 0 190 (dk_at dksX3_readsMay_5 16 rfl rfl)
theorem dX3_readsMay_133 : decode cX3_readsMay 133 = .ok (.ifCond .ne 4, 3) := dk_154 0 4 (dk_at dksX3_readsMay_5 19 rfl rfl)
theorem dX3_readsMay_136 : decode cX3_readsMay 136 = .ok (.return_, 1) := dk_177 (dk_at dksX3_readsMay_5 22 rfl rfl)
theorem dX3_readsMay_137 : decode cX3_readsMay 137 = .ok (.iload 4, 2) := dk_21 4 (dk_at dksX3_readsMay_6 0 rfl rfl)
theorem dX3_readsMay_139 : decode cX3_readsMay 139 = .ok (.istore 6, 2) := dk_54 6 (dk_at dksX3_readsMay_6 2 rfl rfl)
theorem dX3_readsMay_141 : decode cX3_readsMay 141 = .ok (.iload 6, 2) := dk_21 6 (dk_at dksX3_readsMay_6 4 rfl rfl)
theorem dX3_readsMay_143 : decode cX3_readsMay 143 = .ok (.iload 5, 2) := dk_21 5 (dk_at dksX3_readsMay_6 6 rfl rfl)
theorem dX3_readsMay_145 : decode cX3_readsMay 145 = .ok (.if_icmp .gt 27, 3) := dk_163 0 27 (dk_at dksX3_readsMay_6 8 rfl rfl)
theorem dX3_readsMay_148 : decode cX3_readsMay 148 = .ok (.aload_n 0, 1) := dk_42 (dk_at dksX3_readsMay_6 11 rfl rfl)
theorem dX3_readsMay_149 : decode cX3_readsMay 149 = .ok (.getfield 59, 3) := dk_180 0 59 (dk_at dksX3_readsMay_6 12 rfl rfl)
theorem dX3_readsMay_152 : decode cX3_readsMay 152 = .ok (.bipush 24, 2) := dk_16 24 (dk_at dksX3_readsMay_6 15 rfl rfl)
theorem dX3_readsMay_154 : decode cX3_readsMay 154 = .ok (.iload_n 1, 1) := dk_27 (dk_at dksX3_readsMay_6 17 rfl rfl)
theorem dX3_readsMay_155 : decode cX3_readsMay 155 = .ok (.imul, 1) := dk_104 (dk_at dksX3_readsMay_6 18 rfl rfl)
theorem dX3_readsMay_156 : decode cX3_readsMay 156 = .ok (.iload 6, 2) := dk_21 6 (dk_at dksX3_readsMay_6 19 rfl rfl)
theorem dX3_readsMay_158 : decode cX3_readsMay 158 = .ok (.iadd, 1) := dk_96 (dk_at dksX3_readsMay_6 21 rfl rfl)
theorem dX3_readsMay_159 : decode cX3_readsMay 159 = .ok (.dup2, 1) := dk_92 (dk_at dksX3_readsMay_6 22 rfl rfl)
theorem dX3_readsMay_160 : decode cX3_readsMay 160 = .ok (.iaload, 1) := dk_46 (dk_at dksX3_readsMay_6 23 rfl rfl)
theorem dX3_readsMay_161 : decode cX3_readsMay 161 = .ok (.iconst 1, 1) := dk_4 (dk_at dksX3_readsMay_7 0 rfl rfl)
theorem dX3_readsMay_162 : decode cX3_readsMay 162 = .ok (.iload_n 3, 1) := dk_29 (dk_at dksX3_readsMay_7 1 rfl rfl)
theorem dX3_readsMay_163 : decode cX3_readsMay 163 = .ok (.ishl, 1) := dk_120 (dk_at dksX3_readsMay_7 2 rfl rfl)
theorem dX3_readsMay_164 : decode cX3_readsMay 164 = .ok (.ior, 1) := dk_128 (dk_at dksX3_readsMay_7 3 rfl rfl)
theorem dX3_readsMay_165 : decode cX3_readsMay 165 = .ok (.iastore, 1) := dk_79 (dk_at dksX3_readsMay_7 4 rfl rfl)
theorem dX3_readsMay_166 : decode cX3_readsMay 166 = .ok (.iinc 6 1, 3) := dk_132 6 1 (dk_at dksX3_readsMay_7 5 rfl rfl)
theorem dX3_readsMay_169 : decode cX3_readsMay 169 = .ok (.goto (-28), 3) := dk_167 255 228 (dk_at dksX3_readsMay_7 8 rfl rfl)
theorem dX3_readsMay_172 : decode cX3_readsMay 172 = .ok (.aload_n 0, 1) := dk_42 (dk_at dksX3_readsMay_7 11 rfl rfl)
theorem dX3_readsMay_173 : decode cX3_readsMay 173 = .ok (.dup, 1) := dk_89 (dk_at dksX3_readsMay_7 12 rfl rfl)
theorem dX3_readsMay_174 : decode cX3_readsMay 174 = .ok (.getfield 212, 3) := dk_180 0 212 (dk_at dksX3_readsMay_7 13 rfl rfl)
theorem dX3_readsMay_177 : decode cX3_readsMay 177 = .ok (.iconst 1, 1) := dk_4 (dk_at dksX3_readsMay_7 16 rfl rfl)
theorem dX3_readsMay_178 : decode cX3_readsMay 178 = .ok (.iadd, 1) := dk_96 (dk_at dksX3_readsMay_7 17 rfl rfl)
theorem dX3_readsMay_179 : decode cX3_readsMay 179 = .ok (.putfield 212, 3) := dk_181 0 212 (dk_at dksX3_readsMay_7 18 rfl rfl)
theorem dX3_readsMay_182 : decode cX3_readsMay 182 = .ok (.return_, 1) := dk_177 (dk_at dksX3_readsMay_7 21 rfl rfl)
def dkwX3_oneOf_1 : List UInt8 := [172]
abbrev dktX3_oneOf_1 : List UInt8 := dkwX3_oneOf_1 ++ []
def dkwX3_oneOf_0 : List UInt8 := [27, 62, 29, 28, 163, 0, 19, 42, 29, 182, 0, 203, 153, 0, 5, 29, 172, 132, 3, 1, 167, 255, 238, 2]
abbrev dktX3_oneOf_0 : List UInt8 := dkwX3_oneOf_0 ++ dktX3_oneOf_1
theorem dksX3_oneOf_0 : cX3_oneOf.data.toList.drop 0 = dktX3_oneOf_0 := by decide +kernel
theorem dksX3_oneOf_1 : cX3_oneOf.data.toList.drop 24 = dktX3_oneOf_1 := dk_seg dksX3_oneOf_0 24 rfl rfl
theorem dX3_oneOf_0 : decode cX3_oneOf 0 = .ok (.iload_n 1, 1) := dk_27 (dk_at dksX3_oneOf_0 0 rfl rfl)
theorem dX3_oneOf_1 : decode cX3_oneOf 1 = .ok (.istore_n 3, 1) := dk_62 (dk_at dksX3_oneOf_0 1 rfl rfl)
theorem dX3_oneOf_2 : decode cX3_oneOf 2 = .ok (.iload_n 3, 1) := dk_29 (dk_at dksX3_oneOf_0 2 rfl rfl)
theorem dX3_oneOf_3 : decode cX3_oneOf 3 = .ok (.iload_n 2, 1) := dk_28 (dk_at dksX3_oneOf_0 3 rfl rfl)
theorem dX3_oneOf_4 : decode cX3_oneOf 4 = .ok (.if_icmp .gt 19, 3) := dk_163 0 19 (dk_at dksX3_oneOf_0 4 rfl rfl)
theorem dX3_oneOf_7 : decode cX3_oneOf 7 = .ok (.aload_n 0, 1) := dk_42 (dk_at dksX3_oneOf_0 7 rfl rfl)
theorem dX3_oneOf_8 : decode cX3_oneOf 8 = .ok (.iload_n 3, 1) := dk_29 (dk_at dksX3_oneOf_0 8 rfl rfl)
theorem dX3_oneOf_9 : decode cX3_oneOf 9 = .ok (.invokevirtual 203, 3) := dk_182 0 203 (dk_at dksX3_oneOf_0 9 rfl rfl)
theorem dX3_oneOf_12 : decode cX3_oneOf 12 = .ok (.ifCond .eq 5, 3) := dk_153 0 5 (dk_at dksX3_oneOf_0 12 rfl rfl)
theorem dX3_oneOf_15 : decode cX3_oneOf 15 = .ok (.iload_n 3, 1) := dk_29 (dk_at dksX3_oneOf_0 15 rfl rfl)
theorem dX3_oneOf_16 : decode cX3_oneOf 16 = .ok (.ireturn, 1) := dk_172 (dk_at dksX3_oneOf_0 16 rfl rfl)
theorem dX3_oneOf_17 : decode cX3_oneOf 17 = .ok (.iinc 3 1, 3) := dk_132 3 1 (dk_at dksX3_oneOf_0 17 rfl rfl)
theorem dX3_oneOf_20 : decode cX3_oneOf 20 = .ok (.goto (-18), 3) := dk_167 255 238 (dk_at dksX3_oneOf_0 20 rfl rfl)
theorem dX3_oneOf_23 : decode cX3_oneOf 23 = .ok (.iconst (-1), 1) := dk_2 (dk_at dksX3_oneOf_0 23 rfl rfl)
theorem dX3_oneOf_24 : decode cX3_oneOf 24 = .ok (.ireturn, 1) := dk_172 (dk_at dksX3_oneOf_1 0 rfl rfl)
def dkwX3_need_1 : List UInt8 := [177]
abbrev dktX3_need_1 : List UInt8 := dkwX3_need_1 ++ []
def dkwX3_need_0 : List UInt8 := [42, 182, 0, 190, 154, 0, 4, 177, 27, 153, 0, 10, 42, 182, 0, 194, 167, 0, 8, 42, 4, 182, 0, 197]
abbrev dktX3_need_0 : List UInt8 := dkwX3_need_0 ++ dktX3_need_1
theorem dksX3_need_0 : cX3_need.data.toList.drop 0 = dktX3_need_0 := by decide +kernel
theorem dksX3_need_1 : cX3_need.data.toList.drop 24 = dktX3_need_1 := dk_seg dksX3_need_0 24 rfl rfl
theorem dX3_need_0 : decode cX3_need 0 = .ok (.aload_n 0, 1) := dk_42 (dk_at dksX3_need_0 0 rfl rfl)
theorem dX3_need_1 : decode cX3_need 1 = .ok (.invokevirtual 190, 3) := dk_182 0 190 (dk_at dksX3_need_0 1 rfl rfl)
theorem dX3_need_4 : decode cX3_need 4 = .ok (.ifCond .ne 4, 3) := dk_154 0 4 (dk_at dksX3_need_0 4 rfl rfl)
theorem dX3_need_7 : decode cX3_need 7 = .ok (.return_, 1) := dk_177 (dk_at dksX3_need_0 7 rfl rfl)
theorem dX3_need_8 : decode cX3_need 8 = .ok (.iload_n 1, 1) := dk_27 (dk_at dksX3_need_0 8 rfl rfl)
theorem dX3_need_9 : decode cX3_need 9 = .ok (.ifCond .eq 10, 3) := dk_153 0 10 (dk_at dksX3_need_0 9 rfl rfl)
theorem dX3_need_12 : decode cX3_need 12 = .ok (.aload_n 0, 1) := dk_42 (dk_at dksX3_need_0 12 rfl rfl)
theorem dX3_need_13 : decode cX3_need 13 = .ok (.invokevirtual 194, 3) := dk_182 0 194 (dk_at dksX3_need_0 13 rfl rfl)
theorem dX3_need_16 : decode cX3_need 16 = .ok (.goto 8, 3) := dk_167 0 8 (dk_at dksX3_need_0 16 rfl rfl)
theorem dX3_need_19 : decode cX3_need 19 = .ok (.aload_n 0, 1) := dk_42 (dk_at dksX3_need_0 19 rfl rfl)
theorem dX3_need_20 : decode cX3_need 20 = .ok (.iconst 1, 1) := dk_4 (dk_at dksX3_need_0 20 rfl rfl)
theorem dX3_need_21 : decode cX3_need 21 = .ok (.invokevirtual 197, 3) := dk_182 0 197 (dk_at dksX3_need_0 21 rfl rfl)
theorem dX3_need_24 : decode cX3_need 24 = .ok (.return_, 1) := dk_177 (dk_at dksX3_need_1 0 rfl rfl)
def dkwX3_copies_0 : List UInt8 := [3, 62, 29, 43, 190, 162, 0, 15, 44, 29, 43, 29, 46, 79, 132, 3, 1, 167, 255, 241, 177]
abbrev dktX3_copies_0 : List UInt8 := dkwX3_copies_0 ++ []
theorem dksX3_copies_0 : cX3_copies.data.toList.drop 0 = dktX3_copies_0 := by decide +kernel
theorem dX3_copies_0 : decode cX3_copies 0 = .ok (.iconst 0, 1) := dk_3 (dk_at dksX3_copies_0 0 rfl rfl)
theorem dX3_copies_1 : decode cX3_copies 1 = .ok (.istore_n 3, 1) := dk_62 (dk_at dksX3_copies_0 1 rfl rfl)
theorem dX3_copies_2 : decode cX3_copies 2 = .ok (.iload_n 3, 1) := dk_29 (dk_at dksX3_copies_0 2 rfl rfl)
theorem dX3_copies_3 : decode cX3_copies 3 = .ok (.aload_n 1, 1) := dk_43 (dk_at dksX3_copies_0 3 rfl rfl)
theorem dX3_copies_4 : decode cX3_copies 4 = .ok (.arraylength, 1) := dk_190 (dk_at dksX3_copies_0 4 rfl rfl)
theorem dX3_copies_5 : decode cX3_copies 5 = .ok (.if_icmp .ge 15, 3) := dk_162 0 15 (dk_at dksX3_copies_0 5 rfl rfl)
theorem dX3_copies_8 : decode cX3_copies 8 = .ok (.aload_n 2, 1) := dk_44 (dk_at dksX3_copies_0 8 rfl rfl)
theorem dX3_copies_9 : decode cX3_copies 9 = .ok (.iload_n 3, 1) := dk_29 (dk_at dksX3_copies_0 9 rfl rfl)
theorem dX3_copies_10 : decode cX3_copies 10 = .ok (.aload_n 1, 1) := dk_43 (dk_at dksX3_copies_0 10 rfl rfl)
theorem dX3_copies_11 : decode cX3_copies 11 = .ok (.iload_n 3, 1) := dk_29 (dk_at dksX3_copies_0 11 rfl rfl)
theorem dX3_copies_12 : decode cX3_copies 12 = .ok (.iaload, 1) := dk_46 (dk_at dksX3_copies_0 12 rfl rfl)
theorem dX3_copies_13 : decode cX3_copies 13 = .ok (.iastore, 1) := dk_79 (dk_at dksX3_copies_0 13 rfl rfl)
theorem dX3_copies_14 : decode cX3_copies 14 = .ok (.iinc 3 1, 3) := dk_132 3 1 (dk_at dksX3_copies_0 14 rfl rfl)
theorem dX3_copies_17 : decode cX3_copies 17 = .ok (.goto (-15), 3) := dk_167 255 241 (dk_at dksX3_copies_0 17 rfl rfl)
theorem dX3_copies_20 : decode cX3_copies 20 = .ok (.return_, 1) := dk_177 (dk_at dksX3_copies_0 20 rfl rfl)
def dkwX3_lowest_0 : List UInt8 := [3, 60, 26, 27, 122, 4, 126, 154, 0, 9, 132, 1, 1, 167, 255, 245, 27, 172]
abbrev dktX3_lowest_0 : List UInt8 := dkwX3_lowest_0 ++ []
theorem dksX3_lowest_0 : cX3_lowest.data.toList.drop 0 = dktX3_lowest_0 := by decide +kernel
theorem dX3_lowest_0 : decode cX3_lowest 0 = .ok (.iconst 0, 1) := dk_3 (dk_at dksX3_lowest_0 0 rfl rfl)
theorem dX3_lowest_1 : decode cX3_lowest 1 = .ok (.istore_n 1, 1) := dk_60 (dk_at dksX3_lowest_0 1 rfl rfl)
theorem dX3_lowest_2 : decode cX3_lowest 2 = .ok (.iload_n 0, 1) := dk_26 (dk_at dksX3_lowest_0 2 rfl rfl)
theorem dX3_lowest_3 : decode cX3_lowest 3 = .ok (.iload_n 1, 1) := dk_27 (dk_at dksX3_lowest_0 3 rfl rfl)
theorem dX3_lowest_4 : decode cX3_lowest 4 = .ok (.ishr, 1) := dk_122 (dk_at dksX3_lowest_0 4 rfl rfl)
theorem dX3_lowest_5 : decode cX3_lowest 5 = .ok (.iconst 1, 1) := dk_4 (dk_at dksX3_lowest_0 5 rfl rfl)
theorem dX3_lowest_6 : decode cX3_lowest 6 = .ok (.iand, 1) := dk_126 (dk_at dksX3_lowest_0 6 rfl rfl)
theorem dX3_lowest_7 : decode cX3_lowest 7 = .ok (.ifCond .ne 9, 3) := dk_154 0 9 (dk_at dksX3_lowest_0 7 rfl rfl)
theorem dX3_lowest_10 : decode cX3_lowest 10 = .ok (.iinc 1 1, 3) := dk_132 1 1 (dk_at dksX3_lowest_0 10 rfl rfl)
theorem dX3_lowest_13 : decode cX3_lowest 13 = .ok (.goto (-11), 3) := dk_167 255 245 (dk_at dksX3_lowest_0 13 rfl rfl)
theorem dX3_lowest_16 : decode cX3_lowest 16 = .ok (.iload_n 1, 1) := dk_27 (dk_at dksX3_lowest_0 16 rfl rfl)
theorem dX3_lowest_17 : decode cX3_lowest 17 = .ok (.ireturn, 1) := dk_172 (dk_at dksX3_lowest_0 17 rfl rfl)
def dkwX3_fault_0 : List UInt8 := [42, 3, 181, 0, 134, 42, 180, 0, 34, 172]
abbrev dktX3_fault_0 : List UInt8 := dkwX3_fault_0 ++ []
theorem dksX3_fault_0 : cX3_fault.data.toList.drop 0 = dktX3_fault_0 := by decide +kernel
theorem dX3_fault_0 : decode cX3_fault 0 = .ok (.aload_n 0, 1) := dk_42 (dk_at dksX3_fault_0 0 rfl rfl)
theorem dX3_fault_1 : decode cX3_fault 1 = .ok (.iconst 0, 1) := dk_3 (dk_at dksX3_fault_0 1 rfl rfl)
theorem dX3_fault_2 : decode cX3_fault 2 = .ok (.putfield 134, 3) := dk_181 0 134 (dk_at dksX3_fault_0 2 rfl rfl)
theorem dX3_fault_5 : decode cX3_fault 5 = .ok (.aload_n 0, 1) := dk_42 (dk_at dksX3_fault_0 5 rfl rfl)
theorem dX3_fault_6 : decode cX3_fault 6 = .ok (.getfield 34, 3) := dk_180 0 34 (dk_at dksX3_fault_0 6 rfl rfl)
theorem dX3_fault_9 : decode cX3_fault 9 = .ok (.ireturn, 1) := dk_172 (dk_at dksX3_fault_0 9 rfl rfl)
def dkwX3_count_5 : List UInt8 := [180, 0, 38, 27, 16, 8, 100, 46, 167, 0, 12, 42, 180, 0, 25, 27, 16, 20, 100, 46, 172]
abbrev dktX3_count_5 : List UInt8 := dkwX3_count_5 ++ []
def dkwX3_count_4 : List UInt8 := [172, 42, 180, 0, 71, 172, 42, 180, 1, 11, 172, 42, 180, 0, 137, 172, 27, 16, 20, 162, 0, 15, 42]
abbrev dktX3_count_4 : List UInt8 := dkwX3_count_4 ++ dktX3_count_5
def dkwX3_count_3 : List UInt8 := [42, 180, 0, 248, 172, 42, 180, 0, 251, 172, 42, 180, 0, 254, 172, 42, 180, 1, 1, 172, 42, 180, 1, 8]
abbrev dktX3_count_3 : List UInt8 := dkwX3_count_3 ++ dktX3_count_4
def dkwX3_count_2 : List UInt8 := [170, 0, 0, 0, 0, 86, 0, 0, 0, 0, 0, 0, 0, 7, 0, 0, 0, 46, 0, 0, 0, 51, 0, 0, 0, 56, 0, 0, 0, 61, 0, 0, 0, 66, 0, 0, 0, 71, 0, 0, 0, 76, 0, 0, 0, 81]
abbrev dktX3_count_2 : List UInt8 := dkwX3_count_2 ++ dktX3_count_3
def dkwX3_count_1 : List UInt8 := [153, 0, 7, 4, 167, 0, 4, 3, 4, 182, 0, 241, 154, 0, 5, 3, 172, 27]
abbrev dktX3_count_1 : List UInt8 := dkwX3_count_1 ++ dktX3_count_2
def dkwX3_count_0 : List UInt8 := [42, 3, 181, 0, 134, 42, 27, 3, 16, 10, 184, 1, 27, 154, 0, 14, 27, 16, 20, 16, 23, 184, 1, 27]
abbrev dktX3_count_0 : List UInt8 := dkwX3_count_0 ++ dktX3_count_1
theorem dksX3_count_0 : cX3_count.data.toList.drop 0 = dktX3_count_0 := by decide +kernel
theorem dksX3_count_1 : cX3_count.data.toList.drop 24 = dktX3_count_1 := dk_seg dksX3_count_0 24 rfl rfl
theorem dksX3_count_2 : cX3_count.data.toList.drop 42 = dktX3_count_2 := dk_seg dksX3_count_1 18 rfl rfl
theorem dksX3_count_3 : cX3_count.data.toList.drop 88 = dktX3_count_3 := dk_seg dksX3_count_2 46 rfl rfl
theorem dksX3_count_4 : cX3_count.data.toList.drop 112 = dktX3_count_4 := dk_seg dksX3_count_3 24 rfl rfl
theorem dksX3_count_5 : cX3_count.data.toList.drop 135 = dktX3_count_5 := dk_seg dksX3_count_4 23 rfl rfl
theorem dX3_count_0 : decode cX3_count 0 = .ok (.aload_n 0, 1) := dk_42 (dk_at dksX3_count_0 0 rfl rfl)
theorem dX3_count_1 : decode cX3_count 1 = .ok (.iconst 0, 1) := dk_3 (dk_at dksX3_count_0 1 rfl rfl)
theorem dX3_count_2 : decode cX3_count 2 = .ok (.putfield 134, 3) := dk_181 0 134 (dk_at dksX3_count_0 2 rfl rfl)
theorem dX3_count_5 : decode cX3_count 5 = .ok (.aload_n 0, 1) := dk_42 (dk_at dksX3_count_0 5 rfl rfl)
theorem dX3_count_6 : decode cX3_count 6 = .ok (.iload_n 1, 1) := dk_27 (dk_at dksX3_count_0 6 rfl rfl)
theorem dX3_count_7 : decode cX3_count 7 = .ok (.iconst 0, 1) := dk_3 (dk_at dksX3_count_0 7 rfl rfl)
theorem dX3_count_8 : decode cX3_count 8 = .ok (.bipush 10, 2) := dk_16 10 (dk_at dksX3_count_0 8 rfl rfl)
theorem dX3_count_10 : decode cX3_count 10 = .ok (.invokestatic 283, 3) := dk_184 1 27 (dk_at dksX3_count_0 10 rfl rfl)
theorem dX3_count_13 : decode cX3_count 13 = .ok (.ifCond .ne 14, 3) := dk_154 0 14 (dk_at dksX3_count_0 13 rfl rfl)
theorem dX3_count_16 : decode cX3_count 16 = .ok (.iload_n 1, 1) := dk_27 (dk_at dksX3_count_0 16 rfl rfl)
theorem dX3_count_17 : decode cX3_count 17 = .ok (.bipush 20, 2) := dk_16 20 (dk_at dksX3_count_0 17 rfl rfl)
theorem dX3_count_19 : decode cX3_count 19 = .ok (.bipush 23, 2) := dk_16 23 (dk_at dksX3_count_0 19 rfl rfl)
theorem dX3_count_21 : decode cX3_count 21 = .ok (.invokestatic 283, 3) := dk_184 1 27 (dk_at dksX3_count_0 21 rfl rfl)
theorem dX3_count_24 : decode cX3_count 24 = .ok (.ifCond .eq 7, 3) := dk_153 0 7 (dk_at dksX3_count_1 0 rfl rfl)
theorem dX3_count_27 : decode cX3_count 27 = .ok (.iconst 1, 1) := dk_4 (dk_at dksX3_count_1 3 rfl rfl)
theorem dX3_count_28 : decode cX3_count 28 = .ok (.goto 4, 3) := dk_167 0 4 (dk_at dksX3_count_1 4 rfl rfl)
theorem dX3_count_31 : decode cX3_count 31 = .ok (.iconst 0, 1) := dk_3 (dk_at dksX3_count_1 7 rfl rfl)
theorem dX3_count_32 : decode cX3_count 32 = .ok (.iconst 1, 1) := dk_4 (dk_at dksX3_count_1 8 rfl rfl)
theorem dX3_count_33 : decode cX3_count 33 = .ok (.invokevirtual 241, 3) := dk_182 0 241 (dk_at dksX3_count_1 9 rfl rfl)
theorem dX3_count_36 : decode cX3_count 36 = .ok (.ifCond .ne 5, 3) := dk_154 0 5 (dk_at dksX3_count_1 12 rfl rfl)
theorem dX3_count_39 : decode cX3_count 39 = .ok (.iconst 0, 1) := dk_3 (dk_at dksX3_count_1 15 rfl rfl)
theorem dX3_count_40 : decode cX3_count 40 = .ok (.ireturn, 1) := dk_172 (dk_at dksX3_count_1 16 rfl rfl)
theorem dX3_count_41 : decode cX3_count 41 = .ok (.iload_n 1, 1) := dk_27 (dk_at dksX3_count_1 17 rfl rfl)
theorem dX3_count_42 : decode cX3_count 42 = .ok (.tableswitch 86 0 7 #[46, 51, 56, 61, 66, 71, 76, 81], 46) := by decide +kernel
theorem dX3_count_88 : decode cX3_count 88 = .ok (.aload_n 0, 1) := dk_42 (dk_at dksX3_count_3 0 rfl rfl)
theorem dX3_count_89 : decode cX3_count 89 = .ok (.getfield 248, 3) := dk_180 0 248 (dk_at dksX3_count_3 1 rfl rfl)
theorem dX3_count_92 : decode cX3_count 92 = .ok (.ireturn, 1) := dk_172 (dk_at dksX3_count_3 4 rfl rfl)
theorem dX3_count_93 : decode cX3_count 93 = .ok (.aload_n 0, 1) := dk_42 (dk_at dksX3_count_3 5 rfl rfl)
theorem dX3_count_94 : decode cX3_count 94 = .ok (.getfield 251, 3) := dk_180 0 251 (dk_at dksX3_count_3 6 rfl rfl)
theorem dX3_count_97 : decode cX3_count 97 = .ok (.ireturn, 1) := dk_172 (dk_at dksX3_count_3 9 rfl rfl)
theorem dX3_count_98 : decode cX3_count 98 = .ok (.aload_n 0, 1) := dk_42 (dk_at dksX3_count_3 10 rfl rfl)
theorem dX3_count_99 : decode cX3_count 99 = .ok (.getfield 254, 3) := dk_180 0 254 (dk_at dksX3_count_3 11 rfl rfl)
theorem dX3_count_102 : decode cX3_count 102 = .ok (.ireturn, 1) := dk_172 (dk_at dksX3_count_3 14 rfl rfl)
theorem dX3_count_103 : decode cX3_count 103 = .ok (.aload_n 0, 1) := dk_42 (dk_at dksX3_count_3 15 rfl rfl)
theorem dX3_count_104 : decode cX3_count 104 = .ok (.getfield 257, 3) := dk_180 1 1 (dk_at dksX3_count_3 16 rfl rfl)
theorem dX3_count_107 : decode cX3_count 107 = .ok (.ireturn, 1) := dk_172 (dk_at dksX3_count_3 19 rfl rfl)
theorem dX3_count_108 : decode cX3_count 108 = .ok (.aload_n 0, 1) := dk_42 (dk_at dksX3_count_3 20 rfl rfl)
theorem dX3_count_109 : decode cX3_count 109 = .ok (.getfield 264, 3) := dk_180 1 8 (dk_at dksX3_count_3 21 rfl rfl)
theorem dX3_count_112 : decode cX3_count 112 = .ok (.ireturn, 1) := dk_172 (dk_at dksX3_count_4 0 rfl rfl)
theorem dX3_count_113 : decode cX3_count 113 = .ok (.aload_n 0, 1) := dk_42 (dk_at dksX3_count_4 1 rfl rfl)
theorem dX3_count_114 : decode cX3_count 114 = .ok (.getfield 71, 3) := dk_180 0 71 (dk_at dksX3_count_4 2 rfl rfl)
theorem dX3_count_117 : decode cX3_count 117 = .ok (.ireturn, 1) := dk_172 (dk_at dksX3_count_4 5 rfl rfl)
theorem dX3_count_118 : decode cX3_count 118 = .ok (.aload_n 0, 1) := dk_42 (dk_at dksX3_count_4 6 rfl rfl)
theorem dX3_count_119 : decode cX3_count 119 = .ok (.getfield 267, 3) := dk_180 1 11 (dk_at dksX3_count_4 7 rfl rfl)
theorem dX3_count_122 : decode cX3_count 122 = .ok (.ireturn, 1) := dk_172 (dk_at dksX3_count_4 10 rfl rfl)
theorem dX3_count_123 : decode cX3_count 123 = .ok (.aload_n 0, 1) := dk_42 (dk_at dksX3_count_4 11 rfl rfl)
theorem dX3_count_124 : decode cX3_count 124 = .ok (.getfield 137, 3) := dk_180 0 137 (dk_at dksX3_count_4 12 rfl rfl)
theorem dX3_count_127 : decode cX3_count 127 = .ok (.ireturn, 1) := dk_172 (dk_at dksX3_count_4 15 rfl rfl)
theorem dX3_count_128 : decode cX3_count 128 = .ok (.iload_n 1, 1) := dk_27 (dk_at dksX3_count_4 16 rfl rfl)
theorem dX3_count_129 : decode cX3_count 129 = .ok (.bipush 20, 2) := dk_16 20 (dk_at dksX3_count_4 17 rfl rfl)
theorem dX3_count_131 : decode cX3_count 131 = .ok (.if_icmp .ge 15, 3) := dk_162 0 15 (dk_at dksX3_count_4 19 rfl rfl)
theorem dX3_count_134 : decode cX3_count 134 = .ok (.aload_n 0, 1) := dk_42 (dk_at dksX3_count_4 22 rfl rfl)
theorem dX3_count_135 : decode cX3_count 135 = .ok (.getfield 38, 3) := dk_180 0 38 (dk_at dksX3_count_5 0 rfl rfl)
theorem dX3_count_138 : decode cX3_count 138 = .ok (.iload_n 1, 1) := dk_27 (dk_at dksX3_count_5 3 rfl rfl)
theorem dX3_count_139 : decode cX3_count 139 = .ok (.bipush 8, 2) := dk_16 8 (dk_at dksX3_count_5 4 rfl rfl)
theorem dX3_count_141 : decode cX3_count 141 = .ok (.isub, 1) := dk_100 (dk_at dksX3_count_5 6 rfl rfl)
theorem dX3_count_142 : decode cX3_count 142 = .ok (.iaload, 1) := dk_46 (dk_at dksX3_count_5 7 rfl rfl)
theorem dX3_count_143 : decode cX3_count 143 = .ok (.goto 12, 3) := dk_167 0 12 (dk_at dksX3_count_5 8 rfl rfl)
theorem dX3_count_146 : decode cX3_count 146 = .ok (.aload_n 0, 1) := dk_42 (dk_at dksX3_count_5 11 rfl rfl)
theorem dX3_count_147 : decode cX3_count 147 = .ok (.getfield 25, 3) := dk_180 0 25 (dk_at dksX3_count_5 12 rfl rfl)
theorem dX3_count_150 : decode cX3_count 150 = .ok (.iload_n 1, 1) := dk_27 (dk_at dksX3_count_5 15 rfl rfl)
theorem dX3_count_151 : decode cX3_count 151 = .ok (.bipush 20, 2) := dk_16 20 (dk_at dksX3_count_5 16 rfl rfl)
theorem dX3_count_153 : decode cX3_count 153 = .ok (.isub, 1) := dk_100 (dk_at dksX3_count_5 18 rfl rfl)
theorem dX3_count_154 : decode cX3_count 154 = .ok (.iaload, 1) := dk_46 (dk_at dksX3_count_5 19 rfl rfl)
theorem dX3_count_155 : decode cX3_count 155 = .ok (.ireturn, 1) := dk_172 (dk_at dksX3_count_5 20 rfl rfl)
def dkwX3_within_0 : List UInt8 := [26, 27, 161, 0, 12, 26, 28, 163, 0, 7, 4, 167, 0, 4, 3, 172]
abbrev dktX3_within_0 : List UInt8 := dkwX3_within_0 ++ []
theorem dksX3_within_0 : cX3_within.data.toList.drop 0 = dktX3_within_0 := by decide +kernel
theorem dX3_within_0 : decode cX3_within 0 = .ok (.iload_n 0, 1) := dk_26 (dk_at dksX3_within_0 0 rfl rfl)
theorem dX3_within_1 : decode cX3_within 1 = .ok (.iload_n 1, 1) := dk_27 (dk_at dksX3_within_0 1 rfl rfl)
theorem dX3_within_2 : decode cX3_within 2 = .ok (.if_icmp .lt 12, 3) := dk_161 0 12 (dk_at dksX3_within_0 2 rfl rfl)
theorem dX3_within_5 : decode cX3_within 5 = .ok (.iload_n 0, 1) := dk_26 (dk_at dksX3_within_0 5 rfl rfl)
theorem dX3_within_6 : decode cX3_within 6 = .ok (.iload_n 2, 1) := dk_28 (dk_at dksX3_within_0 6 rfl rfl)
theorem dX3_within_7 : decode cX3_within 7 = .ok (.if_icmp .gt 7, 3) := dk_163 0 7 (dk_at dksX3_within_0 7 rfl rfl)
theorem dX3_within_10 : decode cX3_within 10 = .ok (.iconst 1, 1) := dk_4 (dk_at dksX3_within_0 10 rfl rfl)
theorem dX3_within_11 : decode cX3_within 11 = .ok (.goto 4, 3) := dk_167 0 4 (dk_at dksX3_within_0 11 rfl rfl)
theorem dX3_within_14 : decode cX3_within 14 = .ok (.iconst 0, 1) := dk_3 (dk_at dksX3_within_0 14 rfl rfl)
theorem dX3_within_15 : decode cX3_within 15 = .ok (.ireturn, 1) := dk_172 (dk_at dksX3_within_0 15 rfl rfl)
def dkwX3_room_1 : List UInt8 := [154, 0, 12, 42, 180, 0, 7, 27, 46, 167, 0, 13, 42, 180, 0, 13, 27, 46, 167, 0, 4, 3, 172]
abbrev dktX3_room_1 : List UInt8 := dkwX3_room_1 ++ []
def dkwX3_room_0 : List UInt8 := [42, 3, 181, 0, 134, 42, 27, 182, 1, 31, 153, 0, 33, 42, 28, 182, 1, 34, 153, 0, 25, 28]
abbrev dktX3_room_0 : List UInt8 := dkwX3_room_0 ++ dktX3_room_1
theorem dksX3_room_0 : cX3_room.data.toList.drop 0 = dktX3_room_0 := by decide +kernel
theorem dksX3_room_1 : cX3_room.data.toList.drop 22 = dktX3_room_1 := dk_seg dksX3_room_0 22 rfl rfl
theorem dX3_room_0 : decode cX3_room 0 = .ok (.aload_n 0, 1) := dk_42 (dk_at dksX3_room_0 0 rfl rfl)
theorem dX3_room_1 : decode cX3_room 1 = .ok (.iconst 0, 1) := dk_3 (dk_at dksX3_room_0 1 rfl rfl)
theorem dX3_room_2 : decode cX3_room 2 = .ok (.putfield 134, 3) := dk_181 0 134 (dk_at dksX3_room_0 2 rfl rfl)
theorem dX3_room_5 : decode cX3_room 5 = .ok (.aload_n 0, 1) := dk_42 (dk_at dksX3_room_0 5 rfl rfl)
theorem dX3_room_6 : decode cX3_room 6 = .ok (.iload_n 1, 1) := dk_27 (dk_at dksX3_room_0 6 rfl rfl)
theorem dX3_room_7 : decode cX3_room 7 = .ok (.invokevirtual 287, 3) := dk_182 1 31 (dk_at dksX3_room_0 7 rfl rfl)
theorem dX3_room_10 : decode cX3_room 10 = .ok (.ifCond .eq 33, 3) := dk_153 0 33 (dk_at dksX3_room_0 10 rfl rfl)
theorem dX3_room_13 : decode cX3_room 13 = .ok (.aload_n 0, 1) := dk_42 (dk_at dksX3_room_0 13 rfl rfl)
theorem dX3_room_14 : decode cX3_room 14 = .ok (.iload_n 2, 1) := dk_28 (dk_at dksX3_room_0 14 rfl rfl)
theorem dX3_room_15 : decode cX3_room 15 = .ok (.invokevirtual 290, 3) := dk_182 1 34 (dk_at dksX3_room_0 15 rfl rfl)
theorem dX3_room_18 : decode cX3_room 18 = .ok (.ifCond .eq 25, 3) := dk_153 0 25 (dk_at dksX3_room_0 18 rfl rfl)
theorem dX3_room_21 : decode cX3_room 21 = .ok (.iload_n 2, 1) := dk_28 (dk_at dksX3_room_0 21 rfl rfl)
theorem dX3_room_22 : decode cX3_room 22 = .ok (.ifCond .ne 12, 3) := dk_154 0 12 (dk_at dksX3_room_1 0 rfl rfl)
theorem dX3_room_25 : decode cX3_room 25 = .ok (.aload_n 0, 1) := dk_42 (dk_at dksX3_room_1 3 rfl rfl)
theorem dX3_room_26 : decode cX3_room 26 = .ok (.getfield 7, 3) := dk_180 0 7 (dk_at dksX3_room_1 4 rfl rfl)
theorem dX3_room_29 : decode cX3_room 29 = .ok (.iload_n 1, 1) := dk_27 (dk_at dksX3_room_1 7 rfl rfl)
theorem dX3_room_30 : decode cX3_room 30 = .ok (.iaload, 1) := dk_46 (dk_at dksX3_room_1 8 rfl rfl)
theorem dX3_room_31 : decode cX3_room 31 = .ok (.goto 13, 3) := dk_167 0 13 (dk_at dksX3_room_1 9 rfl rfl)
theorem dX3_room_34 : decode cX3_room 34 = .ok (.aload_n 0, 1) := dk_42 (dk_at dksX3_room_1 12 rfl rfl)
theorem dX3_room_35 : decode cX3_room 35 = .ok (.getfield 13, 3) := dk_180 0 13 (dk_at dksX3_room_1 13 rfl rfl)
theorem dX3_room_38 : decode cX3_room 38 = .ok (.iload_n 1, 1) := dk_27 (dk_at dksX3_room_1 16 rfl rfl)
theorem dX3_room_39 : decode cX3_room 39 = .ok (.iaload, 1) := dk_46 (dk_at dksX3_room_1 17 rfl rfl)
theorem dX3_room_40 : decode cX3_room 40 = .ok (.goto 4, 3) := dk_167 0 4 (dk_at dksX3_room_1 18 rfl rfl)
theorem dX3_room_43 : decode cX3_room 43 = .ok (.iconst 0, 1) := dk_3 (dk_at dksX3_room_1 21 rfl rfl)
theorem dX3_room_44 : decode cX3_room 44 = .ok (.ireturn, 1) := dk_172 (dk_at dksX3_room_1 22 rfl rfl)
def dkwX3_isRoom_0 : List UInt8 := [42, 27, 155, 0, 15, 27, 42, 180, 0, 248, 162, 0, 7, 4, 167, 0, 4, 3, 4, 182, 0, 241, 172]
abbrev dktX3_isRoom_0 : List UInt8 := dkwX3_isRoom_0 ++ []
theorem dksX3_isRoom_0 : cX3_isRoom.data.toList.drop 0 = dktX3_isRoom_0 := by decide +kernel
theorem dX3_isRoom_0 : decode cX3_isRoom 0 = .ok (.aload_n 0, 1) := dk_42 (dk_at dksX3_isRoom_0 0 rfl rfl)
theorem dX3_isRoom_1 : decode cX3_isRoom 1 = .ok (.iload_n 1, 1) := dk_27 (dk_at dksX3_isRoom_0 1 rfl rfl)
theorem dX3_isRoom_2 : decode cX3_isRoom 2 = .ok (.ifCond .lt 15, 3) := dk_155 0 15 (dk_at dksX3_isRoom_0 2 rfl rfl)
theorem dX3_isRoom_5 : decode cX3_isRoom 5 = .ok (.iload_n 1, 1) := dk_27 (dk_at dksX3_isRoom_0 5 rfl rfl)
theorem dX3_isRoom_6 : decode cX3_isRoom 6 = .ok (.aload_n 0, 1) := dk_42 (dk_at dksX3_isRoom_0 6 rfl rfl)
theorem dX3_isRoom_7 : decode cX3_isRoom 7 = .ok (.getfield 248, 3) := dk_180 0 248 (dk_at dksX3_isRoom_0 7 rfl rfl)
theorem dX3_isRoom_10 : decode cX3_isRoom 10 = .ok (.if_icmp .ge 7, 3) := dk_162 0 7 (dk_at dksX3_isRoom_0 10 rfl rfl)
theorem dX3_isRoom_13 : decode cX3_isRoom 13 = .ok (.iconst 1, 1) := dk_4 (dk_at dksX3_isRoom_0 13 rfl rfl)
theorem dX3_isRoom_14 : decode cX3_isRoom 14 = .ok (.goto 4, 3) := dk_167 0 4 (dk_at dksX3_isRoom_0 14 rfl rfl)
theorem dX3_isRoom_17 : decode cX3_isRoom 17 = .ok (.iconst 0, 1) := dk_3 (dk_at dksX3_isRoom_0 17 rfl rfl)
theorem dX3_isRoom_18 : decode cX3_isRoom 18 = .ok (.iconst 1, 1) := dk_4 (dk_at dksX3_isRoom_0 18 rfl rfl)
theorem dX3_isRoom_19 : decode cX3_isRoom 19 = .ok (.invokevirtual 241, 3) := dk_182 0 241 (dk_at dksX3_isRoom_0 19 rfl rfl)
theorem dX3_isRoom_22 : decode cX3_isRoom 22 = .ok (.ireturn, 1) := dk_172 (dk_at dksX3_isRoom_0 22 rfl rfl)
def dkwX3_isTwo_0 : List UInt8 := [42, 27, 153, 0, 8, 27, 4, 160, 0, 7, 4, 167, 0, 4, 3, 4, 182, 0, 241, 172]
abbrev dktX3_isTwo_0 : List UInt8 := dkwX3_isTwo_0 ++ []
theorem dksX3_isTwo_0 : cX3_isTwo.data.toList.drop 0 = dktX3_isTwo_0 := by decide +kernel
theorem dX3_isTwo_0 : decode cX3_isTwo 0 = .ok (.aload_n 0, 1) := dk_42 (dk_at dksX3_isTwo_0 0 rfl rfl)
theorem dX3_isTwo_1 : decode cX3_isTwo 1 = .ok (.iload_n 1, 1) := dk_27 (dk_at dksX3_isTwo_0 1 rfl rfl)
theorem dX3_isTwo_2 : decode cX3_isTwo 2 = .ok (.ifCond .eq 8, 3) := dk_153 0 8 (dk_at dksX3_isTwo_0 2 rfl rfl)
theorem dX3_isTwo_5 : decode cX3_isTwo 5 = .ok (.iload_n 1, 1) := dk_27 (dk_at dksX3_isTwo_0 5 rfl rfl)
theorem dX3_isTwo_6 : decode cX3_isTwo 6 = .ok (.iconst 1, 1) := dk_4 (dk_at dksX3_isTwo_0 6 rfl rfl)
theorem dX3_isTwo_7 : decode cX3_isTwo 7 = .ok (.if_icmp .ne 7, 3) := dk_160 0 7 (dk_at dksX3_isTwo_0 7 rfl rfl)
theorem dX3_isTwo_10 : decode cX3_isTwo 10 = .ok (.iconst 1, 1) := dk_4 (dk_at dksX3_isTwo_0 10 rfl rfl)
theorem dX3_isTwo_11 : decode cX3_isTwo 11 = .ok (.goto 4, 3) := dk_167 0 4 (dk_at dksX3_isTwo_0 11 rfl rfl)
theorem dX3_isTwo_14 : decode cX3_isTwo 14 = .ok (.iconst 0, 1) := dk_3 (dk_at dksX3_isTwo_0 14 rfl rfl)
theorem dX3_isTwo_15 : decode cX3_isTwo 15 = .ok (.iconst 1, 1) := dk_4 (dk_at dksX3_isTwo_0 15 rfl rfl)
theorem dX3_isTwo_16 : decode cX3_isTwo 16 = .ok (.invokevirtual 241, 3) := dk_182 0 241 (dk_at dksX3_isTwo_0 16 rfl rfl)
theorem dX3_isTwo_19 : decode cX3_isTwo 19 = .ok (.ireturn, 1) := dk_172 (dk_at dksX3_isTwo_0 19 rfl rfl)
def dkwX3_lodger_2 : List UInt8 := [172]
abbrev dktX3_lodger_2 : List UInt8 := dkwX3_lodger_2 ++ []
def dkwX3_lodger_1 : List UInt8 := [154, 0, 5, 3, 172, 28, 154, 0, 12, 42, 180, 0, 16, 27, 46, 167, 0, 9, 42, 27, 28, 182, 1, 37]
abbrev dktX3_lodger_1 : List UInt8 := dkwX3_lodger_1 ++ dktX3_lodger_2
def dkwX3_lodger_0 : List UInt8 := [42, 3, 181, 0, 134, 42, 27, 182, 1, 46, 153, 0, 17, 42, 28, 3, 5, 184, 1, 27, 4, 182, 0, 241]
abbrev dktX3_lodger_0 : List UInt8 := dkwX3_lodger_0 ++ dktX3_lodger_1
theorem dksX3_lodger_0 : cX3_lodger.data.toList.drop 0 = dktX3_lodger_0 := by decide +kernel
theorem dksX3_lodger_1 : cX3_lodger.data.toList.drop 24 = dktX3_lodger_1 := dk_seg dksX3_lodger_0 24 rfl rfl
theorem dksX3_lodger_2 : cX3_lodger.data.toList.drop 48 = dktX3_lodger_2 := dk_seg dksX3_lodger_1 24 rfl rfl
theorem dX3_lodger_0 : decode cX3_lodger 0 = .ok (.aload_n 0, 1) := dk_42 (dk_at dksX3_lodger_0 0 rfl rfl)
theorem dX3_lodger_1 : decode cX3_lodger 1 = .ok (.iconst 0, 1) := dk_3 (dk_at dksX3_lodger_0 1 rfl rfl)
theorem dX3_lodger_2 : decode cX3_lodger 2 = .ok (.putfield 134, 3) := dk_181 0 134 (dk_at dksX3_lodger_0 2 rfl rfl)
theorem dX3_lodger_5 : decode cX3_lodger 5 = .ok (.aload_n 0, 1) := dk_42 (dk_at dksX3_lodger_0 5 rfl rfl)
theorem dX3_lodger_6 : decode cX3_lodger 6 = .ok (.iload_n 1, 1) := dk_27 (dk_at dksX3_lodger_0 6 rfl rfl)
theorem dX3_lodger_7 : decode cX3_lodger 7 = .ok (.invokevirtual 302, 3) := dk_182 1 46 (dk_at dksX3_lodger_0 7 rfl rfl)
theorem dX3_lodger_10 : decode cX3_lodger 10 = .ok (.ifCond .eq 17, 3) := dk_153 0 17 (dk_at dksX3_lodger_0 10 rfl rfl)
theorem dX3_lodger_13 : decode cX3_lodger 13 = .ok (.aload_n 0, 1) := dk_42 (dk_at dksX3_lodger_0 13 rfl rfl)
theorem dX3_lodger_14 : decode cX3_lodger 14 = .ok (.iload_n 2, 1) := dk_28 (dk_at dksX3_lodger_0 14 rfl rfl)
theorem dX3_lodger_15 : decode cX3_lodger 15 = .ok (.iconst 0, 1) := dk_3 (dk_at dksX3_lodger_0 15 rfl rfl)
theorem dX3_lodger_16 : decode cX3_lodger 16 = .ok (.iconst 2, 1) := dk_5 (dk_at dksX3_lodger_0 16 rfl rfl)
theorem dX3_lodger_17 : decode cX3_lodger 17 = .ok (.invokestatic 283, 3) := dk_184 1 27 (dk_at dksX3_lodger_0 17 rfl rfl)
theorem dX3_lodger_20 : decode cX3_lodger 20 = .ok (.iconst 1, 1) := dk_4 (dk_at dksX3_lodger_0 20 rfl rfl)
theorem dX3_lodger_21 : decode cX3_lodger 21 = .ok (.invokevirtual 241, 3) := dk_182 0 241 (dk_at dksX3_lodger_0 21 rfl rfl)
theorem dX3_lodger_24 : decode cX3_lodger 24 = .ok (.ifCond .ne 5, 3) := dk_154 0 5 (dk_at dksX3_lodger_1 0 rfl rfl)
theorem dX3_lodger_27 : decode cX3_lodger 27 = .ok (.iconst 0, 1) := dk_3 (dk_at dksX3_lodger_1 3 rfl rfl)
theorem dX3_lodger_28 : decode cX3_lodger 28 = .ok (.ireturn, 1) := dk_172 (dk_at dksX3_lodger_1 4 rfl rfl)
theorem dX3_lodger_29 : decode cX3_lodger 29 = .ok (.iload_n 2, 1) := dk_28 (dk_at dksX3_lodger_1 5 rfl rfl)
theorem dX3_lodger_30 : decode cX3_lodger 30 = .ok (.ifCond .ne 12, 3) := dk_154 0 12 (dk_at dksX3_lodger_1 6 rfl rfl)
theorem dX3_lodger_33 : decode cX3_lodger 33 = .ok (.aload_n 0, 1) := dk_42 (dk_at dksX3_lodger_1 9 rfl rfl)
theorem dX3_lodger_34 : decode cX3_lodger 34 = .ok (.getfield 16, 3) := dk_180 0 16 (dk_at dksX3_lodger_1 10 rfl rfl)
theorem dX3_lodger_37 : decode cX3_lodger 37 = .ok (.iload_n 1, 1) := dk_27 (dk_at dksX3_lodger_1 13 rfl rfl)
theorem dX3_lodger_38 : decode cX3_lodger 38 = .ok (.iaload, 1) := dk_46 (dk_at dksX3_lodger_1 14 rfl rfl)
theorem dX3_lodger_39 : decode cX3_lodger 39 = .ok (.goto 9, 3) := dk_167 0 9 (dk_at dksX3_lodger_1 15 rfl rfl)
theorem dX3_lodger_42 : decode cX3_lodger 42 = .ok (.aload_n 0, 1) := dk_42 (dk_at dksX3_lodger_1 18 rfl rfl)
theorem dX3_lodger_43 : decode cX3_lodger 43 = .ok (.iload_n 1, 1) := dk_27 (dk_at dksX3_lodger_1 19 rfl rfl)
theorem dX3_lodger_44 : decode cX3_lodger 44 = .ok (.iload_n 2, 1) := dk_28 (dk_at dksX3_lodger_1 20 rfl rfl)
theorem dX3_lodger_45 : decode cX3_lodger 45 = .ok (.invokevirtual 293, 3) := dk_182 1 37 (dk_at dksX3_lodger_1 21 rfl rfl)
theorem dX3_lodger_48 : decode cX3_lodger 48 = .ok (.ireturn, 1) := dk_172 (dk_at dksX3_lodger_2 0 rfl rfl)
def dkwX3_isLodger_0 : List UInt8 := [42, 27, 155, 0, 15, 27, 42, 180, 0, 251, 162, 0, 7, 4, 167, 0, 4, 3, 4, 182, 0, 241, 172]
abbrev dktX3_isLodger_0 : List UInt8 := dkwX3_isLodger_0 ++ []
theorem dksX3_isLodger_0 : cX3_isLodger.data.toList.drop 0 = dktX3_isLodger_0 := by decide +kernel
theorem dX3_isLodger_0 : decode cX3_isLodger 0 = .ok (.aload_n 0, 1) := dk_42 (dk_at dksX3_isLodger_0 0 rfl rfl)
theorem dX3_isLodger_1 : decode cX3_isLodger 1 = .ok (.iload_n 1, 1) := dk_27 (dk_at dksX3_isLodger_0 1 rfl rfl)
theorem dX3_isLodger_2 : decode cX3_isLodger 2 = .ok (.ifCond .lt 15, 3) := dk_155 0 15 (dk_at dksX3_isLodger_0 2 rfl rfl)
theorem dX3_isLodger_5 : decode cX3_isLodger 5 = .ok (.iload_n 1, 1) := dk_27 (dk_at dksX3_isLodger_0 5 rfl rfl)
theorem dX3_isLodger_6 : decode cX3_isLodger 6 = .ok (.aload_n 0, 1) := dk_42 (dk_at dksX3_isLodger_0 6 rfl rfl)
theorem dX3_isLodger_7 : decode cX3_isLodger 7 = .ok (.getfield 251, 3) := dk_180 0 251 (dk_at dksX3_isLodger_0 7 rfl rfl)
theorem dX3_isLodger_10 : decode cX3_isLodger 10 = .ok (.if_icmp .ge 7, 3) := dk_162 0 7 (dk_at dksX3_isLodger_0 10 rfl rfl)
theorem dX3_isLodger_13 : decode cX3_isLodger 13 = .ok (.iconst 1, 1) := dk_4 (dk_at dksX3_isLodger_0 13 rfl rfl)
theorem dX3_isLodger_14 : decode cX3_isLodger 14 = .ok (.goto 4, 3) := dk_167 0 4 (dk_at dksX3_isLodger_0 14 rfl rfl)
theorem dX3_isLodger_17 : decode cX3_isLodger 17 = .ok (.iconst 0, 1) := dk_3 (dk_at dksX3_isLodger_0 17 rfl rfl)
theorem dX3_isLodger_18 : decode cX3_isLodger 18 = .ok (.iconst 1, 1) := dk_4 (dk_at dksX3_isLodger_0 18 rfl rfl)
theorem dX3_isLodger_19 : decode cX3_isLodger 19 = .ok (.invokevirtual 241, 3) := dk_182 0 241 (dk_at dksX3_isLodger_0 19 rfl rfl)
theorem dX3_isLodger_22 : decode cX3_isLodger 22 = .ok (.ireturn, 1) := dk_172 (dk_at dksX3_isLodger_0 22 rfl rfl)
def dkwX3_has_4 : List UInt8 := [29, 172]
abbrev dktX3_has_4 : List UInt8 := dkwX3_has_4 ++ []
def dkwX3_has_3 : List UInt8 := [6, 21, 4, 104, 4, 96, 46, 27, 160, 0, 7, 4, 167, 0, 4, 3, 96, 62, 132, 4, 1, 167, 255, 182]
abbrev dktX3_has_3 : List UInt8 := dkwX3_has_3 ++ dktX3_has_4
def dkwX3_has_2 : List UInt8 := [180, 0, 62, 6, 21, 4, 104, 46, 27, 160, 0, 7, 4, 167, 0, 4, 3, 100, 62, 29, 42, 180, 0, 62]
abbrev dktX3_has_2 : List UInt8 := dkwX3_has_2 ++ dktX3_has_3
def dkwX3_has_1 : List UInt8 := [162, 0, 71, 42, 180, 0, 62, 6, 21, 4, 104, 5, 96, 46, 28, 159, 0, 6, 167, 0, 47, 29, 42]
abbrev dktX3_has_1 : List UInt8 := dkwX3_has_1 ++ dktX3_has_2
def dkwX3_has_0 : List UInt8 := [42, 180, 0, 19, 5, 27, 104, 28, 96, 4, 100, 46, 62, 3, 54, 4, 21, 4, 42, 180, 1, 8]
abbrev dktX3_has_0 : List UInt8 := dkwX3_has_0 ++ dktX3_has_1
theorem dksX3_has_0 : cX3_has.data.toList.drop 0 = dktX3_has_0 := by decide +kernel
theorem dksX3_has_1 : cX3_has.data.toList.drop 22 = dktX3_has_1 := dk_seg dksX3_has_0 22 rfl rfl
theorem dksX3_has_2 : cX3_has.data.toList.drop 45 = dktX3_has_2 := dk_seg dksX3_has_1 23 rfl rfl
theorem dksX3_has_3 : cX3_has.data.toList.drop 69 = dktX3_has_3 := dk_seg dksX3_has_2 24 rfl rfl
theorem dksX3_has_4 : cX3_has.data.toList.drop 93 = dktX3_has_4 := dk_seg dksX3_has_3 24 rfl rfl
theorem dX3_has_0 : decode cX3_has 0 = .ok (.aload_n 0, 1) := dk_42 (dk_at dksX3_has_0 0 rfl rfl)
theorem dX3_has_1 : decode cX3_has 1 = .ok (.getfield 19, 3) := dk_180 0 19 (dk_at dksX3_has_0 1 rfl rfl)
theorem dX3_has_4 : decode cX3_has 4 = .ok (.iconst 2, 1) := dk_5 (dk_at dksX3_has_0 4 rfl rfl)
theorem dX3_has_5 : decode cX3_has 5 = .ok (.iload_n 1, 1) := dk_27 (dk_at dksX3_has_0 5 rfl rfl)
theorem dX3_has_6 : decode cX3_has 6 = .ok (.imul, 1) := dk_104 (dk_at dksX3_has_0 6 rfl rfl)
theorem dX3_has_7 : decode cX3_has 7 = .ok (.iload_n 2, 1) := dk_28 (dk_at dksX3_has_0 7 rfl rfl)
theorem dX3_has_8 : decode cX3_has 8 = .ok (.iadd, 1) := dk_96 (dk_at dksX3_has_0 8 rfl rfl)
theorem dX3_has_9 : decode cX3_has 9 = .ok (.iconst 1, 1) := dk_4 (dk_at dksX3_has_0 9 rfl rfl)
theorem dX3_has_10 : decode cX3_has 10 = .ok (.isub, 1) := dk_100 (dk_at dksX3_has_0 10 rfl rfl)
theorem dX3_has_11 : decode cX3_has 11 = .ok (.iaload, 1) := dk_46 (dk_at dksX3_has_0 11 rfl rfl)
theorem dX3_has_12 : decode cX3_has 12 = .ok (.istore_n 3, 1) := dk_62 (dk_at dksX3_has_0 12 rfl rfl)
theorem dX3_has_13 : decode cX3_has 13 = .ok (.iconst 0, 1) := dk_3 (dk_at dksX3_has_0 13 rfl rfl)
theorem dX3_has_14 : decode cX3_has 14 = .ok (.istore 4, 2) := dk_54 4 (dk_at dksX3_has_0 14 rfl rfl)
theorem dX3_has_16 : decode cX3_has 16 = .ok (.iload 4, 2) := dk_21 4 (dk_at dksX3_has_0 16 rfl rfl)
theorem dX3_has_18 : decode cX3_has 18 = .ok (.aload_n 0, 1) := dk_42 (dk_at dksX3_has_0 18 rfl rfl)
theorem dX3_has_19 : decode cX3_has 19 = .ok (.getfield 264, 3) := dk_180 1 8 (dk_at dksX3_has_0 19 rfl rfl)
theorem dX3_has_22 : decode cX3_has 22 = .ok (.if_icmp .ge 71, 3) := dk_162 0 71 (dk_at dksX3_has_1 0 rfl rfl)
theorem dX3_has_25 : decode cX3_has 25 = .ok (.aload_n 0, 1) := dk_42 (dk_at dksX3_has_1 3 rfl rfl)
theorem dX3_has_26 : decode cX3_has 26 = .ok (.getfield 62, 3) := dk_180 0 62 (dk_at dksX3_has_1 4 rfl rfl)
theorem dX3_has_29 : decode cX3_has 29 = .ok (.iconst 3, 1) := dk_6 (dk_at dksX3_has_1 7 rfl rfl)
theorem dX3_has_30 : decode cX3_has 30 = .ok (.iload 4, 2) := dk_21 4 (dk_at dksX3_has_1 8 rfl rfl)
theorem dX3_has_32 : decode cX3_has 32 = .ok (.imul, 1) := dk_104 (dk_at dksX3_has_1 10 rfl rfl)
theorem dX3_has_33 : decode cX3_has 33 = .ok (.iconst 2, 1) := dk_5 (dk_at dksX3_has_1 11 rfl rfl)
theorem dX3_has_34 : decode cX3_has 34 = .ok (.iadd, 1) := dk_96 (dk_at dksX3_has_1 12 rfl rfl)
theorem dX3_has_35 : decode cX3_has 35 = .ok (.iaload, 1) := dk_46 (dk_at dksX3_has_1 13 rfl rfl)
theorem dX3_has_36 : decode cX3_has 36 = .ok (.iload_n 2, 1) := dk_28 (dk_at dksX3_has_1 14 rfl rfl)
theorem dX3_has_37 : decode cX3_has 37 = .ok (.if_icmp .eq 6, 3) := dk_159 0 6 (dk_at dksX3_has_1 15 rfl rfl)
theorem dX3_has_40 : decode cX3_has 40 = .ok (.goto 47, 3) := dk_167 0 47 (dk_at dksX3_has_1 18 rfl rfl)
theorem dX3_has_43 : decode cX3_has 43 = .ok (.iload_n 3, 1) := dk_29 (dk_at dksX3_has_1 21 rfl rfl)
theorem dX3_has_44 : decode cX3_has 44 = .ok (.aload_n 0, 1) := dk_42 (dk_at dksX3_has_1 22 rfl rfl)
theorem dX3_has_45 : decode cX3_has 45 = .ok (.getfield 62, 3) := dk_180 0 62 (dk_at dksX3_has_2 0 rfl rfl)
theorem dX3_has_48 : decode cX3_has 48 = .ok (.iconst 3, 1) := dk_6 (dk_at dksX3_has_2 3 rfl rfl)
theorem dX3_has_49 : decode cX3_has 49 = .ok (.iload 4, 2) := dk_21 4 (dk_at dksX3_has_2 4 rfl rfl)
theorem dX3_has_51 : decode cX3_has 51 = .ok (.imul, 1) := dk_104 (dk_at dksX3_has_2 6 rfl rfl)
theorem dX3_has_52 : decode cX3_has 52 = .ok (.iaload, 1) := dk_46 (dk_at dksX3_has_2 7 rfl rfl)
theorem dX3_has_53 : decode cX3_has 53 = .ok (.iload_n 1, 1) := dk_27 (dk_at dksX3_has_2 8 rfl rfl)
theorem dX3_has_54 : decode cX3_has 54 = .ok (.if_icmp .ne 7, 3) := dk_160 0 7 (dk_at dksX3_has_2 9 rfl rfl)
theorem dX3_has_57 : decode cX3_has 57 = .ok (.iconst 1, 1) := dk_4 (dk_at dksX3_has_2 12 rfl rfl)
theorem dX3_has_58 : decode cX3_has 58 = .ok (.goto 4, 3) := dk_167 0 4 (dk_at dksX3_has_2 13 rfl rfl)
theorem dX3_has_61 : decode cX3_has 61 = .ok (.iconst 0, 1) := dk_3 (dk_at dksX3_has_2 16 rfl rfl)
theorem dX3_has_62 : decode cX3_has 62 = .ok (.isub, 1) := dk_100 (dk_at dksX3_has_2 17 rfl rfl)
theorem dX3_has_63 : decode cX3_has 63 = .ok (.istore_n 3, 1) := dk_62 (dk_at dksX3_has_2 18 rfl rfl)
theorem dX3_has_64 : decode cX3_has 64 = .ok (.iload_n 3, 1) := dk_29 (dk_at dksX3_has_2 19 rfl rfl)
theorem dX3_has_65 : decode cX3_has 65 = .ok (.aload_n 0, 1) := dk_42 (dk_at dksX3_has_2 20 rfl rfl)
theorem dX3_has_66 : decode cX3_has 66 = .ok (.getfield 62, 3) := dk_180 0 62 (dk_at dksX3_has_2 21 rfl rfl)
theorem dX3_has_69 : decode cX3_has 69 = .ok (.iconst 3, 1) := dk_6 (dk_at dksX3_has_3 0 rfl rfl)
theorem dX3_has_70 : decode cX3_has 70 = .ok (.iload 4, 2) := dk_21 4 (dk_at dksX3_has_3 1 rfl rfl)
theorem dX3_has_72 : decode cX3_has 72 = .ok (.imul, 1) := dk_104 (dk_at dksX3_has_3 3 rfl rfl)
theorem dX3_has_73 : decode cX3_has 73 = .ok (.iconst 1, 1) := dk_4 (dk_at dksX3_has_3 4 rfl rfl)
theorem dX3_has_74 : decode cX3_has 74 = .ok (.iadd, 1) := dk_96 (dk_at dksX3_has_3 5 rfl rfl)
theorem dX3_has_75 : decode cX3_has 75 = .ok (.iaload, 1) := dk_46 (dk_at dksX3_has_3 6 rfl rfl)
theorem dX3_has_76 : decode cX3_has 76 = .ok (.iload_n 1, 1) := dk_27 (dk_at dksX3_has_3 7 rfl rfl)
theorem dX3_has_77 : decode cX3_has 77 = .ok (.if_icmp .ne 7, 3) := dk_160 0 7 (dk_at dksX3_has_3 8 rfl rfl)
theorem dX3_has_80 : decode cX3_has 80 = .ok (.iconst 1, 1) := dk_4 (dk_at dksX3_has_3 11 rfl rfl)
theorem dX3_has_81 : decode cX3_has 81 = .ok (.goto 4, 3) := dk_167 0 4 (dk_at dksX3_has_3 12 rfl rfl)
theorem dX3_has_84 : decode cX3_has 84 = .ok (.iconst 0, 1) := dk_3 (dk_at dksX3_has_3 15 rfl rfl)
theorem dX3_has_85 : decode cX3_has 85 = .ok (.iadd, 1) := dk_96 (dk_at dksX3_has_3 16 rfl rfl)
theorem dX3_has_86 : decode cX3_has 86 = .ok (.istore_n 3, 1) := dk_62 (dk_at dksX3_has_3 17 rfl rfl)
theorem dX3_has_87 : decode cX3_has 87 = .ok (.iinc 4 1, 3) := dk_132 4 1 (dk_at dksX3_has_3 18 rfl rfl)
theorem dX3_has_90 : decode cX3_has 90 = .ok (.goto (-74), 3) := dk_167 255 182 (dk_at dksX3_has_3 21 rfl rfl)
theorem dX3_has_93 : decode cX3_has 93 = .ok (.iload_n 3, 1) := dk_29 (dk_at dksX3_has_4 0 rfl rfl)
theorem dX3_has_94 : decode cX3_has 94 = .ok (.ireturn, 1) := dk_172 (dk_at dksX3_has_4 1 rfl rfl)
def dkwX3_may_5 : List UInt8 := [184, 1, 55, 172]
abbrev dktX3_may_5 : List UInt8 := dkwX3_may_5 ++ []
def dkwX3_may_4 : List UInt8 := [162, 0, 18, 21, 4, 21, 4, 4, 100, 126, 54, 4, 132, 5, 1, 167, 255, 238, 21, 4, 184, 1, 24]
abbrev dktX3_may_4 : List UInt8 := dkwX3_may_4 ++ dktX3_may_5
def dkwX3_may_3 : List UInt8 := [162, 0, 7, 4, 167, 0, 4, 3, 4, 182, 0, 241, 154, 0, 5, 3, 172, 3, 54, 5, 21, 5, 29]
abbrev dktX3_may_3 : List UInt8 := dkwX3_may_3 ++ dktX3_may_4
def dkwX3_may_2 : List UInt8 := [104, 28, 96, 46, 54, 4, 29, 2, 160, 0, 9, 21, 4, 184, 1, 52, 172, 42, 29, 21, 4, 184, 1, 52]
abbrev dktX3_may_2 : List UInt8 := dkwX3_may_2 ++ dktX3_may_3
def dkwX3_may_1 : List UInt8 := [161, 0, 7, 4, 167, 0, 4, 3, 4, 182, 0, 241, 154, 0, 5, 3, 172, 42, 180, 0, 28, 16, 24, 27]
abbrev dktX3_may_1 : List UInt8 := dkwX3_may_1 ++ dktX3_may_2
def dkwX3_may_0 : List UInt8 := [42, 3, 181, 0, 134, 42, 27, 182, 1, 46, 153, 0, 29, 42, 28, 182, 1, 49, 153, 0, 21, 42, 29, 2]
abbrev dktX3_may_0 : List UInt8 := dkwX3_may_0 ++ dktX3_may_1
theorem dksX3_may_0 : cX3_may.data.toList.drop 0 = dktX3_may_0 := by decide +kernel
theorem dksX3_may_1 : cX3_may.data.toList.drop 24 = dktX3_may_1 := dk_seg dksX3_may_0 24 rfl rfl
theorem dksX3_may_2 : cX3_may.data.toList.drop 48 = dktX3_may_2 := dk_seg dksX3_may_1 24 rfl rfl
theorem dksX3_may_3 : cX3_may.data.toList.drop 72 = dktX3_may_3 := dk_seg dksX3_may_2 24 rfl rfl
theorem dksX3_may_4 : cX3_may.data.toList.drop 95 = dktX3_may_4 := dk_seg dksX3_may_3 23 rfl rfl
theorem dksX3_may_5 : cX3_may.data.toList.drop 118 = dktX3_may_5 := dk_seg dksX3_may_4 23 rfl rfl
theorem dX3_may_0 : decode cX3_may 0 = .ok (.aload_n 0, 1) := dk_42 (dk_at dksX3_may_0 0 rfl rfl)
theorem dX3_may_1 : decode cX3_may 1 = .ok (.iconst 0, 1) := dk_3 (dk_at dksX3_may_0 1 rfl rfl)
theorem dX3_may_2 : decode cX3_may 2 = .ok (.putfield 134, 3) := dk_181 0 134 (dk_at dksX3_may_0 2 rfl rfl)
theorem dX3_may_5 : decode cX3_may 5 = .ok (.aload_n 0, 1) := dk_42 (dk_at dksX3_may_0 5 rfl rfl)
theorem dX3_may_6 : decode cX3_may 6 = .ok (.iload_n 1, 1) := dk_27 (dk_at dksX3_may_0 6 rfl rfl)
theorem dX3_may_7 : decode cX3_may 7 = .ok (.invokevirtual 302, 3) := dk_182 1 46 (dk_at dksX3_may_0 7 rfl rfl)
theorem dX3_may_10 : decode cX3_may 10 = .ok (.ifCond .eq 29, 3) := dk_153 0 29 (dk_at dksX3_may_0 10 rfl rfl)
theorem dX3_may_13 : decode cX3_may 13 = .ok (.aload_n 0, 1) := dk_42 (dk_at dksX3_may_0 13 rfl rfl)
theorem dX3_may_14 : decode cX3_may 14 = .ok (.iload_n 2, 1) := dk_28 (dk_at dksX3_may_0 14 rfl rfl)
theorem dX3_may_15 : decode cX3_may 15 = .ok (.invokevirtual 305, 3) := dk_182 1 49 (dk_at dksX3_may_0 15 rfl rfl)
theorem dX3_may_18 : decode cX3_may 18 = .ok (.ifCond .eq 21, 3) := dk_153 0 21 (dk_at dksX3_may_0 18 rfl rfl)
theorem dX3_may_21 : decode cX3_may 21 = .ok (.aload_n 0, 1) := dk_42 (dk_at dksX3_may_0 21 rfl rfl)
theorem dX3_may_22 : decode cX3_may 22 = .ok (.iload_n 3, 1) := dk_29 (dk_at dksX3_may_0 22 rfl rfl)
theorem dX3_may_23 : decode cX3_may 23 = .ok (.iconst (-1), 1) := dk_2 (dk_at dksX3_may_0 23 rfl rfl)
theorem dX3_may_24 : decode cX3_may 24 = .ok (.if_icmp .lt 7, 3) := dk_161 0 7 (dk_at dksX3_may_1 0 rfl rfl)
theorem dX3_may_27 : decode cX3_may 27 = .ok (.iconst 1, 1) := dk_4 (dk_at dksX3_may_1 3 rfl rfl)
theorem dX3_may_28 : decode cX3_may 28 = .ok (.goto 4, 3) := dk_167 0 4 (dk_at dksX3_may_1 4 rfl rfl)
theorem dX3_may_31 : decode cX3_may 31 = .ok (.iconst 0, 1) := dk_3 (dk_at dksX3_may_1 7 rfl rfl)
theorem dX3_may_32 : decode cX3_may 32 = .ok (.iconst 1, 1) := dk_4 (dk_at dksX3_may_1 8 rfl rfl)
theorem dX3_may_33 : decode cX3_may 33 = .ok (.invokevirtual 241, 3) := dk_182 0 241 (dk_at dksX3_may_1 9 rfl rfl)
theorem dX3_may_36 : decode cX3_may 36 = .ok (.ifCond .ne 5, 3) := dk_154 0 5 (dk_at dksX3_may_1 12 rfl rfl)
theorem dX3_may_39 : decode cX3_may 39 = .ok (.iconst 0, 1) := dk_3 (dk_at dksX3_may_1 15 rfl rfl)
theorem dX3_may_40 : decode cX3_may 40 = .ok (.ireturn, 1) := dk_172 (dk_at dksX3_may_1 16 rfl rfl)
theorem dX3_may_41 : decode cX3_may 41 = .ok (.aload_n 0, 1) := dk_42 (dk_at dksX3_may_1 17 rfl rfl)
theorem dX3_may_42 : decode cX3_may 42 = .ok (.getfield 28, 3) := dk_180 0 28 (dk_at dksX3_may_1 18 rfl rfl)
theorem dX3_may_45 : decode cX3_may 45 = .ok (.bipush 24, 2) := dk_16 24 (dk_at dksX3_may_1 21 rfl rfl)
theorem dX3_may_47 : decode cX3_may 47 = .ok (.iload_n 1, 1) := dk_27 (dk_at dksX3_may_1 23 rfl rfl)
theorem dX3_may_48 : decode cX3_may 48 = .ok (.imul, 1) := dk_104 (dk_at dksX3_may_2 0 rfl rfl)
theorem dX3_may_49 : decode cX3_may 49 = .ok (.iload_n 2, 1) := dk_28 (dk_at dksX3_may_2 1 rfl rfl)
theorem dX3_may_50 : decode cX3_may 50 = .ok (.iadd, 1) := dk_96 (dk_at dksX3_may_2 2 rfl rfl)
theorem dX3_may_51 : decode cX3_may 51 = .ok (.iaload, 1) := dk_46 (dk_at dksX3_may_2 3 rfl rfl)
theorem dX3_may_52 : decode cX3_may 52 = .ok (.istore 4, 2) := dk_54 4 (dk_at dksX3_may_2 4 rfl rfl)
theorem dX3_may_54 : decode cX3_may 54 = .ok (.iload_n 3, 1) := dk_29 (dk_at dksX3_may_2 6 rfl rfl)
theorem dX3_may_55 : decode cX3_may 55 = .ok (.iconst (-1), 1) := dk_2 (dk_at dksX3_may_2 7 rfl rfl)
theorem dX3_may_56 : decode cX3_may 56 = .ok (.if_icmp .ne 9, 3) := dk_160 0 9 (dk_at dksX3_may_2 8 rfl rfl)
theorem dX3_may_59 : decode cX3_may 59 = .ok (.iload 4, 2) := dk_21 4 (dk_at dksX3_may_2 11 rfl rfl)
theorem dX3_may_61 : decode cX3_may 61 = .ok (.invokestatic 308, 3) := dk_184 1 52 (dk_at dksX3_may_2 13 rfl rfl)
theorem dX3_may_64 : decode cX3_may 64 = .ok (.ireturn, 1) := dk_172 (dk_at dksX3_may_2 16 rfl rfl)
theorem dX3_may_65 : decode cX3_may 65 = .ok (.aload_n 0, 1) := dk_42 (dk_at dksX3_may_2 17 rfl rfl)
theorem dX3_may_66 : decode cX3_may 66 = .ok (.iload_n 3, 1) := dk_29 (dk_at dksX3_may_2 18 rfl rfl)
theorem dX3_may_67 : decode cX3_may 67 = .ok (.iload 4, 2) := dk_21 4 (dk_at dksX3_may_2 19 rfl rfl)
theorem dX3_may_69 : decode cX3_may 69 = .ok (.invokestatic 308, 3) := dk_184 1 52 (dk_at dksX3_may_2 21 rfl rfl)
theorem dX3_may_72 : decode cX3_may 72 = .ok (.if_icmp .ge 7, 3) := dk_162 0 7 (dk_at dksX3_may_3 0 rfl rfl)
theorem dX3_may_75 : decode cX3_may 75 = .ok (.iconst 1, 1) := dk_4 (dk_at dksX3_may_3 3 rfl rfl)
theorem dX3_may_76 : decode cX3_may 76 = .ok (.goto 4, 3) := dk_167 0 4 (dk_at dksX3_may_3 4 rfl rfl)
theorem dX3_may_79 : decode cX3_may 79 = .ok (.iconst 0, 1) := dk_3 (dk_at dksX3_may_3 7 rfl rfl)
theorem dX3_may_80 : decode cX3_may 80 = .ok (.iconst 1, 1) := dk_4 (dk_at dksX3_may_3 8 rfl rfl)
theorem dX3_may_81 : decode cX3_may 81 = .ok (.invokevirtual 241, 3) := dk_182 0 241 (dk_at dksX3_may_3 9 rfl rfl)
theorem dX3_may_84 : decode cX3_may 84 = .ok (.ifCond .ne 5, 3) := dk_154 0 5 (dk_at dksX3_may_3 12 rfl rfl)
theorem dX3_may_87 : decode cX3_may 87 = .ok (.iconst 0, 1) := dk_3 (dk_at dksX3_may_3 15 rfl rfl)
theorem dX3_may_88 : decode cX3_may 88 = .ok (.ireturn, 1) := dk_172 (dk_at dksX3_may_3 16 rfl rfl)
theorem dX3_may_89 : decode cX3_may 89 = .ok (.iconst 0, 1) := dk_3 (dk_at dksX3_may_3 17 rfl rfl)
theorem dX3_may_90 : decode cX3_may 90 = .ok (.istore 5, 2) := dk_54 5 (dk_at dksX3_may_3 18 rfl rfl)
theorem dX3_may_92 : decode cX3_may 92 = .ok (.iload 5, 2) := dk_21 5 (dk_at dksX3_may_3 20 rfl rfl)
theorem dX3_may_94 : decode cX3_may 94 = .ok (.iload_n 3, 1) := dk_29 (dk_at dksX3_may_3 22 rfl rfl)
theorem dX3_may_95 : decode cX3_may 95 = .ok (.if_icmp .ge 18, 3) := dk_162 0 18 (dk_at dksX3_may_4 0 rfl rfl)
theorem dX3_may_98 : decode cX3_may 98 = .ok (.iload 4, 2) := dk_21 4 (dk_at dksX3_may_4 3 rfl rfl)
theorem dX3_may_100 : decode cX3_may 100 = .ok (.iload 4, 2) := dk_21 4 (dk_at dksX3_may_4 5 rfl rfl)
theorem dX3_may_102 : decode cX3_may 102 = .ok (.iconst 1, 1) := dk_4 (dk_at dksX3_may_4 7 rfl rfl)
theorem dX3_may_103 : decode cX3_may 103 = .ok (.isub, 1) := dk_100 (dk_at dksX3_may_4 8 rfl rfl)
theorem dX3_may_104 : decode cX3_may 104 = .ok (.iand, 1) := dk_126 (dk_at dksX3_may_4 9 rfl rfl)
theorem dX3_may_105 : decode cX3_may 105 = .ok (.istore 4, 2) := dk_54 4 (dk_at dksX3_may_4 10 rfl rfl)
theorem dX3_may_107 : decode cX3_may 107 = .ok (.iinc 5 1, 3) := dk_132 5 1 (dk_at dksX3_may_4 12 rfl rfl)
theorem dX3_may_110 : decode cX3_may 110 = .ok (.goto (-18), 3) := dk_167 255 238 (dk_at dksX3_may_4 15 rfl rfl)
theorem dX3_may_113 : decode cX3_may 113 = .ok (.iload 4, 2) := dk_21 4 (dk_at dksX3_may_4 18 rfl rfl)
theorem dX3_may_115 : decode cX3_may 115 = .ok (.invokestatic 280, 3) := dk_184 1 24 (dk_at dksX3_may_4 20 rfl rfl)
theorem dX3_may_118 : decode cX3_may 118 = .ok (.invokestatic 311, 3) := dk_184 1 55 (dk_at dksX3_may_5 0 rfl rfl)
theorem dX3_may_121 : decode cX3_may 121 = .ok (.ireturn, 1) := dk_172 (dk_at dksX3_may_5 3 rfl rfl)
def dkwX3_isHour_0 : List UInt8 := [42, 27, 3, 16, 23, 184, 1, 27, 4, 182, 0, 241, 172]
abbrev dktX3_isHour_0 : List UInt8 := dkwX3_isHour_0 ++ []
theorem dksX3_isHour_0 : cX3_isHour.data.toList.drop 0 = dktX3_isHour_0 := by decide +kernel
theorem dX3_isHour_0 : decode cX3_isHour 0 = .ok (.aload_n 0, 1) := dk_42 (dk_at dksX3_isHour_0 0 rfl rfl)
theorem dX3_isHour_1 : decode cX3_isHour 1 = .ok (.iload_n 1, 1) := dk_27 (dk_at dksX3_isHour_0 1 rfl rfl)
theorem dX3_isHour_2 : decode cX3_isHour 2 = .ok (.iconst 0, 1) := dk_3 (dk_at dksX3_isHour_0 2 rfl rfl)
theorem dX3_isHour_3 : decode cX3_isHour 3 = .ok (.bipush 23, 2) := dk_16 23 (dk_at dksX3_isHour_0 3 rfl rfl)
theorem dX3_isHour_5 : decode cX3_isHour 5 = .ok (.invokestatic 283, 3) := dk_184 1 27 (dk_at dksX3_isHour_0 5 rfl rfl)
theorem dX3_isHour_8 : decode cX3_isHour 8 = .ok (.iconst 1, 1) := dk_4 (dk_at dksX3_isHour_0 8 rfl rfl)
theorem dX3_isHour_9 : decode cX3_isHour 9 = .ok (.invokevirtual 241, 3) := dk_182 0 241 (dk_at dksX3_isHour_0 9 rfl rfl)
theorem dX3_isHour_12 : decode cX3_isHour 12 = .ok (.ireturn, 1) := dk_172 (dk_at dksX3_isHour_0 12 rfl rfl)
def dkwX3_bits_1 : List UInt8 := [27, 172]
abbrev dktX3_bits_1 : List UInt8 := dkwX3_bits_1 ++ []
def dkwX3_bits_0 : List UInt8 := [3, 60, 3, 61, 28, 16, 18, 162, 0, 17, 27, 26, 28, 122, 4, 126, 96, 60, 132, 2, 1, 167, 255, 239]
abbrev dktX3_bits_0 : List UInt8 := dkwX3_bits_0 ++ dktX3_bits_1
theorem dksX3_bits_0 : cX3_bits.data.toList.drop 0 = dktX3_bits_0 := by decide +kernel
theorem dksX3_bits_1 : cX3_bits.data.toList.drop 24 = dktX3_bits_1 := dk_seg dksX3_bits_0 24 rfl rfl
theorem dX3_bits_0 : decode cX3_bits 0 = .ok (.iconst 0, 1) := dk_3 (dk_at dksX3_bits_0 0 rfl rfl)
theorem dX3_bits_1 : decode cX3_bits 1 = .ok (.istore_n 1, 1) := dk_60 (dk_at dksX3_bits_0 1 rfl rfl)
theorem dX3_bits_2 : decode cX3_bits 2 = .ok (.iconst 0, 1) := dk_3 (dk_at dksX3_bits_0 2 rfl rfl)
theorem dX3_bits_3 : decode cX3_bits 3 = .ok (.istore_n 2, 1) := dk_61 (dk_at dksX3_bits_0 3 rfl rfl)
theorem dX3_bits_4 : decode cX3_bits 4 = .ok (.iload_n 2, 1) := dk_28 (dk_at dksX3_bits_0 4 rfl rfl)
theorem dX3_bits_5 : decode cX3_bits 5 = .ok (.bipush 18, 2) := dk_16 18 (dk_at dksX3_bits_0 5 rfl rfl)
theorem dX3_bits_7 : decode cX3_bits 7 = .ok (.if_icmp .ge 17, 3) := dk_162 0 17 (dk_at dksX3_bits_0 7 rfl rfl)
theorem dX3_bits_10 : decode cX3_bits 10 = .ok (.iload_n 1, 1) := dk_27 (dk_at dksX3_bits_0 10 rfl rfl)
theorem dX3_bits_11 : decode cX3_bits 11 = .ok (.iload_n 0, 1) := dk_26 (dk_at dksX3_bits_0 11 rfl rfl)
theorem dX3_bits_12 : decode cX3_bits 12 = .ok (.iload_n 2, 1) := dk_28 (dk_at dksX3_bits_0 12 rfl rfl)
theorem dX3_bits_13 : decode cX3_bits 13 = .ok (.ishr, 1) := dk_122 (dk_at dksX3_bits_0 13 rfl rfl)
theorem dX3_bits_14 : decode cX3_bits 14 = .ok (.iconst 1, 1) := dk_4 (dk_at dksX3_bits_0 14 rfl rfl)
theorem dX3_bits_15 : decode cX3_bits 15 = .ok (.iand, 1) := dk_126 (dk_at dksX3_bits_0 15 rfl rfl)
theorem dX3_bits_16 : decode cX3_bits 16 = .ok (.iadd, 1) := dk_96 (dk_at dksX3_bits_0 16 rfl rfl)
theorem dX3_bits_17 : decode cX3_bits 17 = .ok (.istore_n 1, 1) := dk_60 (dk_at dksX3_bits_0 17 rfl rfl)
theorem dX3_bits_18 : decode cX3_bits 18 = .ok (.iinc 2 1, 3) := dk_132 2 1 (dk_at dksX3_bits_0 18 rfl rfl)
theorem dX3_bits_21 : decode cX3_bits 21 = .ok (.goto (-17), 3) := dk_167 255 239 (dk_at dksX3_bits_0 21 rfl rfl)
theorem dX3_bits_24 : decode cX3_bits 24 = .ok (.iload_n 1, 1) := dk_27 (dk_at dksX3_bits_1 0 rfl rfl)
theorem dX3_bits_25 : decode cX3_bits 25 = .ok (.ireturn, 1) := dk_172 (dk_at dksX3_bits_1 1 rfl rfl)
def dkwX3_toldOf_0 : List UInt8 := [26, 7, 162, 0, 7, 26, 167, 0, 7, 26, 16, 6, 96, 172]
abbrev dktX3_toldOf_0 : List UInt8 := dkwX3_toldOf_0 ++ []
theorem dksX3_toldOf_0 : cX3_toldOf.data.toList.drop 0 = dktX3_toldOf_0 := by decide +kernel
theorem dX3_toldOf_0 : decode cX3_toldOf 0 = .ok (.iload_n 0, 1) := dk_26 (dk_at dksX3_toldOf_0 0 rfl rfl)
theorem dX3_toldOf_1 : decode cX3_toldOf 1 = .ok (.iconst 4, 1) := dk_7 (dk_at dksX3_toldOf_0 1 rfl rfl)
theorem dX3_toldOf_2 : decode cX3_toldOf 2 = .ok (.if_icmp .ge 7, 3) := dk_162 0 7 (dk_at dksX3_toldOf_0 2 rfl rfl)
theorem dX3_toldOf_5 : decode cX3_toldOf 5 = .ok (.iload_n 0, 1) := dk_26 (dk_at dksX3_toldOf_0 5 rfl rfl)
theorem dX3_toldOf_6 : decode cX3_toldOf 6 = .ok (.goto 7, 3) := dk_167 0 7 (dk_at dksX3_toldOf_0 6 rfl rfl)
theorem dX3_toldOf_9 : decode cX3_toldOf 9 = .ok (.iload_n 0, 1) := dk_26 (dk_at dksX3_toldOf_0 9 rfl rfl)
theorem dX3_toldOf_10 : decode cX3_toldOf 10 = .ok (.bipush 6, 2) := dk_16 6 (dk_at dksX3_toldOf_0 10 rfl rfl)
theorem dX3_toldOf_12 : decode cX3_toldOf 12 = .ok (.iadd, 1) := dk_96 (dk_at dksX3_toldOf_0 12 rfl rfl)
theorem dX3_toldOf_13 : decode cX3_toldOf 13 = .ok (.ireturn, 1) := dk_172 (dk_at dksX3_toldOf_0 13 rfl rfl)
def dkwX3_says_3 : List UInt8 := [162, 0, 7, 28, 167, 0, 7, 28, 16, 6, 100, 182, 1, 58, 172]
abbrev dktX3_says_3 : List UInt8 := dkwX3_says_3 ++ []
def dkwX3_says_2 : List UInt8 := [27, 46, 159, 0, 7, 4, 167, 0, 4, 3, 4, 182, 0, 241, 154, 0, 5, 3, 172, 42, 27, 28, 7]
abbrev dktX3_says_2 : List UInt8 := dkwX3_says_2 ++ dktX3_says_3
def dkwX3_says_1 : List UInt8 := [16, 10, 161, 0, 31, 28, 16, 10, 100, 42, 180, 0, 248, 162, 0, 20, 28, 16, 10, 100, 42, 180, 0, 16]
abbrev dktX3_says_1 : List UInt8 := dkwX3_says_1 ++ dktX3_says_2
def dkwX3_says_0 : List UInt8 := [42, 3, 181, 0, 134, 42, 27, 182, 1, 46, 153, 0, 55, 42, 28, 3, 6, 184, 1, 27, 154, 0, 33, 28]
abbrev dktX3_says_0 : List UInt8 := dkwX3_says_0 ++ dktX3_says_1
theorem dksX3_says_0 : cX3_says.data.toList.drop 0 = dktX3_says_0 := by decide +kernel
theorem dksX3_says_1 : cX3_says.data.toList.drop 24 = dktX3_says_1 := dk_seg dksX3_says_0 24 rfl rfl
theorem dksX3_says_2 : cX3_says.data.toList.drop 48 = dktX3_says_2 := dk_seg dksX3_says_1 24 rfl rfl
theorem dksX3_says_3 : cX3_says.data.toList.drop 71 = dktX3_says_3 := dk_seg dksX3_says_2 23 rfl rfl
theorem dX3_says_0 : decode cX3_says 0 = .ok (.aload_n 0, 1) := dk_42 (dk_at dksX3_says_0 0 rfl rfl)
theorem dX3_says_1 : decode cX3_says 1 = .ok (.iconst 0, 1) := dk_3 (dk_at dksX3_says_0 1 rfl rfl)
theorem dX3_says_2 : decode cX3_says 2 = .ok (.putfield 134, 3) := dk_181 0 134 (dk_at dksX3_says_0 2 rfl rfl)
theorem dX3_says_5 : decode cX3_says 5 = .ok (.aload_n 0, 1) := dk_42 (dk_at dksX3_says_0 5 rfl rfl)
theorem dX3_says_6 : decode cX3_says 6 = .ok (.iload_n 1, 1) := dk_27 (dk_at dksX3_says_0 6 rfl rfl)
theorem dX3_says_7 : decode cX3_says 7 = .ok (.invokevirtual 302, 3) := dk_182 1 46 (dk_at dksX3_says_0 7 rfl rfl)
theorem dX3_says_10 : decode cX3_says 10 = .ok (.ifCond .eq 55, 3) := dk_153 0 55 (dk_at dksX3_says_0 10 rfl rfl)
theorem dX3_says_13 : decode cX3_says 13 = .ok (.aload_n 0, 1) := dk_42 (dk_at dksX3_says_0 13 rfl rfl)
theorem dX3_says_14 : decode cX3_says 14 = .ok (.iload_n 2, 1) := dk_28 (dk_at dksX3_says_0 14 rfl rfl)
theorem dX3_says_15 : decode cX3_says 15 = .ok (.iconst 0, 1) := dk_3 (dk_at dksX3_says_0 15 rfl rfl)
theorem dX3_says_16 : decode cX3_says 16 = .ok (.iconst 3, 1) := dk_6 (dk_at dksX3_says_0 16 rfl rfl)
theorem dX3_says_17 : decode cX3_says 17 = .ok (.invokestatic 283, 3) := dk_184 1 27 (dk_at dksX3_says_0 17 rfl rfl)
theorem dX3_says_20 : decode cX3_says 20 = .ok (.ifCond .ne 33, 3) := dk_154 0 33 (dk_at dksX3_says_0 20 rfl rfl)
theorem dX3_says_23 : decode cX3_says 23 = .ok (.iload_n 2, 1) := dk_28 (dk_at dksX3_says_0 23 rfl rfl)
theorem dX3_says_24 : decode cX3_says 24 = .ok (.bipush 10, 2) := dk_16 10 (dk_at dksX3_says_1 0 rfl rfl)
theorem dX3_says_26 : decode cX3_says 26 = .ok (.if_icmp .lt 31, 3) := dk_161 0 31 (dk_at dksX3_says_1 2 rfl rfl)
theorem dX3_says_29 : decode cX3_says 29 = .ok (.iload_n 2, 1) := dk_28 (dk_at dksX3_says_1 5 rfl rfl)
theorem dX3_says_30 : decode cX3_says 30 = .ok (.bipush 10, 2) := dk_16 10 (dk_at dksX3_says_1 6 rfl rfl)
theorem dX3_says_32 : decode cX3_says 32 = .ok (.isub, 1) := dk_100 (dk_at dksX3_says_1 8 rfl rfl)
theorem dX3_says_33 : decode cX3_says 33 = .ok (.aload_n 0, 1) := dk_42 (dk_at dksX3_says_1 9 rfl rfl)
theorem dX3_says_34 : decode cX3_says 34 = .ok (.getfield 248, 3) := dk_180 0 248 (dk_at dksX3_says_1 10 rfl rfl)
theorem dX3_says_37 : decode cX3_says 37 = .ok (.if_icmp .ge 20, 3) := dk_162 0 20 (dk_at dksX3_says_1 13 rfl rfl)
theorem dX3_says_40 : decode cX3_says 40 = .ok (.iload_n 2, 1) := dk_28 (dk_at dksX3_says_1 16 rfl rfl)
theorem dX3_says_41 : decode cX3_says 41 = .ok (.bipush 10, 2) := dk_16 10 (dk_at dksX3_says_1 17 rfl rfl)
theorem dX3_says_43 : decode cX3_says 43 = .ok (.isub, 1) := dk_100 (dk_at dksX3_says_1 19 rfl rfl)
theorem dX3_says_44 : decode cX3_says 44 = .ok (.aload_n 0, 1) := dk_42 (dk_at dksX3_says_1 20 rfl rfl)
theorem dX3_says_45 : decode cX3_says 45 = .ok (.getfield 16, 3) := dk_180 0 16 (dk_at dksX3_says_1 21 rfl rfl)
theorem dX3_says_48 : decode cX3_says 48 = .ok (.iload_n 1, 1) := dk_27 (dk_at dksX3_says_2 0 rfl rfl)
theorem dX3_says_49 : decode cX3_says 49 = .ok (.iaload, 1) := dk_46 (dk_at dksX3_says_2 1 rfl rfl)
theorem dX3_says_50 : decode cX3_says 50 = .ok (.if_icmp .eq 7, 3) := dk_159 0 7 (dk_at dksX3_says_2 2 rfl rfl)
theorem dX3_says_53 : decode cX3_says 53 = .ok (.iconst 1, 1) := dk_4 (dk_at dksX3_says_2 5 rfl rfl)
theorem dX3_says_54 : decode cX3_says 54 = .ok (.goto 4, 3) := dk_167 0 4 (dk_at dksX3_says_2 6 rfl rfl)
theorem dX3_says_57 : decode cX3_says 57 = .ok (.iconst 0, 1) := dk_3 (dk_at dksX3_says_2 9 rfl rfl)
theorem dX3_says_58 : decode cX3_says 58 = .ok (.iconst 1, 1) := dk_4 (dk_at dksX3_says_2 10 rfl rfl)
theorem dX3_says_59 : decode cX3_says 59 = .ok (.invokevirtual 241, 3) := dk_182 0 241 (dk_at dksX3_says_2 11 rfl rfl)
theorem dX3_says_62 : decode cX3_says 62 = .ok (.ifCond .ne 5, 3) := dk_154 0 5 (dk_at dksX3_says_2 14 rfl rfl)
theorem dX3_says_65 : decode cX3_says 65 = .ok (.iconst 0, 1) := dk_3 (dk_at dksX3_says_2 17 rfl rfl)
theorem dX3_says_66 : decode cX3_says 66 = .ok (.ireturn, 1) := dk_172 (dk_at dksX3_says_2 18 rfl rfl)
theorem dX3_says_67 : decode cX3_says 67 = .ok (.aload_n 0, 1) := dk_42 (dk_at dksX3_says_2 19 rfl rfl)
theorem dX3_says_68 : decode cX3_says 68 = .ok (.iload_n 1, 1) := dk_27 (dk_at dksX3_says_2 20 rfl rfl)
theorem dX3_says_69 : decode cX3_says 69 = .ok (.iload_n 2, 1) := dk_28 (dk_at dksX3_says_2 21 rfl rfl)
theorem dX3_says_70 : decode cX3_says 70 = .ok (.iconst 4, 1) := dk_7 (dk_at dksX3_says_2 22 rfl rfl)
theorem dX3_says_71 : decode cX3_says 71 = .ok (.if_icmp .ge 7, 3) := dk_162 0 7 (dk_at dksX3_says_3 0 rfl rfl)
theorem dX3_says_74 : decode cX3_says 74 = .ok (.iload_n 2, 1) := dk_28 (dk_at dksX3_says_3 3 rfl rfl)
theorem dX3_says_75 : decode cX3_says 75 = .ok (.goto 7, 3) := dk_167 0 7 (dk_at dksX3_says_3 4 rfl rfl)
theorem dX3_says_78 : decode cX3_says 78 = .ok (.iload_n 2, 1) := dk_28 (dk_at dksX3_says_3 7 rfl rfl)
theorem dX3_says_79 : decode cX3_says 79 = .ok (.bipush 6, 2) := dk_16 6 (dk_at dksX3_says_3 8 rfl rfl)
theorem dX3_says_81 : decode cX3_says 81 = .ok (.isub, 1) := dk_100 (dk_at dksX3_says_3 10 rfl rfl)
theorem dX3_says_82 : decode cX3_says 82 = .ok (.invokevirtual 314, 3) := dk_182 1 58 (dk_at dksX3_says_3 11 rfl rfl)
theorem dX3_says_85 : decode cX3_says 85 = .ok (.ireturn, 1) := dk_172 (dk_at dksX3_says_3 14 rfl rfl)
def dkwX3_signOf_0 : List UInt8 := [42, 28, 182, 1, 40, 42, 27, 182, 1, 43, 126, 172]
abbrev dktX3_signOf_0 : List UInt8 := dkwX3_signOf_0 ++ []
theorem dksX3_signOf_0 : cX3_signOf.data.toList.drop 0 = dktX3_signOf_0 := by decide +kernel
theorem dX3_signOf_0 : decode cX3_signOf 0 = .ok (.aload_n 0, 1) := dk_42 (dk_at dksX3_signOf_0 0 rfl rfl)
theorem dX3_signOf_1 : decode cX3_signOf 1 = .ok (.iload_n 2, 1) := dk_28 (dk_at dksX3_signOf_0 1 rfl rfl)
theorem dX3_signOf_2 : decode cX3_signOf 2 = .ok (.invokevirtual 296, 3) := dk_182 1 40 (dk_at dksX3_signOf_0 2 rfl rfl)
theorem dX3_signOf_5 : decode cX3_signOf 5 = .ok (.aload_n 0, 1) := dk_42 (dk_at dksX3_signOf_0 5 rfl rfl)
theorem dX3_signOf_6 : decode cX3_signOf 6 = .ok (.iload_n 1, 1) := dk_27 (dk_at dksX3_signOf_0 6 rfl rfl)
theorem dX3_signOf_7 : decode cX3_signOf 7 = .ok (.invokevirtual 299, 3) := dk_182 1 43 (dk_at dksX3_signOf_0 7 rfl rfl)
theorem dX3_signOf_10 : decode cX3_signOf 10 = .ok (.iand, 1) := dk_126 (dk_at dksX3_signOf_0 10 rfl rfl)
theorem dX3_signOf_11 : decode cX3_signOf 11 = .ok (.ireturn, 1) := dk_172 (dk_at dksX3_signOf_0 11 rfl rfl)
def dkwX3_lawOf_0 : List UInt8 := [42, 180, 0, 25, 27, 7, 162, 0, 7, 27, 167, 0, 4, 3, 46, 172]
abbrev dktX3_lawOf_0 : List UInt8 := dkwX3_lawOf_0 ++ []
theorem dksX3_lawOf_0 : cX3_lawOf.data.toList.drop 0 = dktX3_lawOf_0 := by decide +kernel
theorem dX3_lawOf_0 : decode cX3_lawOf 0 = .ok (.aload_n 0, 1) := dk_42 (dk_at dksX3_lawOf_0 0 rfl rfl)
theorem dX3_lawOf_1 : decode cX3_lawOf 1 = .ok (.getfield 25, 3) := dk_180 0 25 (dk_at dksX3_lawOf_0 1 rfl rfl)
theorem dX3_lawOf_4 : decode cX3_lawOf 4 = .ok (.iload_n 1, 1) := dk_27 (dk_at dksX3_lawOf_0 4 rfl rfl)
theorem dX3_lawOf_5 : decode cX3_lawOf 5 = .ok (.iconst 4, 1) := dk_7 (dk_at dksX3_lawOf_0 5 rfl rfl)
theorem dX3_lawOf_6 : decode cX3_lawOf 6 = .ok (.if_icmp .ge 7, 3) := dk_162 0 7 (dk_at dksX3_lawOf_0 6 rfl rfl)
theorem dX3_lawOf_9 : decode cX3_lawOf 9 = .ok (.iload_n 1, 1) := dk_27 (dk_at dksX3_lawOf_0 9 rfl rfl)
theorem dX3_lawOf_10 : decode cX3_lawOf 10 = .ok (.goto 4, 3) := dk_167 0 4 (dk_at dksX3_lawOf_0 10 rfl rfl)
theorem dX3_lawOf_13 : decode cX3_lawOf 13 = .ok (.iconst 0, 1) := dk_3 (dk_at dksX3_lawOf_0 13 rfl rfl)
theorem dX3_lawOf_14 : decode cX3_lawOf 14 = .ok (.iaload, 1) := dk_46 (dk_at dksX3_lawOf_0 14 rfl rfl)
theorem dX3_lawOf_15 : decode cX3_lawOf 15 = .ok (.ireturn, 1) := dk_172 (dk_at dksX3_lawOf_0 15 rfl rfl)
def dkwX3_both_1 : List UInt8 := [167, 0, 4, 3, 128, 172]
abbrev dktX3_both_1 : List UInt8 := dkwX3_both_1 ++ []
def dkwX3_both_0 : List UInt8 := [42, 27, 4, 182, 1, 37, 158, 0, 7, 4, 167, 0, 4, 3, 42, 27, 5, 182, 1, 37, 158, 0, 7, 5]
abbrev dktX3_both_0 : List UInt8 := dkwX3_both_0 ++ dktX3_both_1
theorem dksX3_both_0 : cX3_both.data.toList.drop 0 = dktX3_both_0 := by decide +kernel
theorem dksX3_both_1 : cX3_both.data.toList.drop 24 = dktX3_both_1 := dk_seg dksX3_both_0 24 rfl rfl
theorem dX3_both_0 : decode cX3_both 0 = .ok (.aload_n 0, 1) := dk_42 (dk_at dksX3_both_0 0 rfl rfl)
theorem dX3_both_1 : decode cX3_both 1 = .ok (.iload_n 1, 1) := dk_27 (dk_at dksX3_both_0 1 rfl rfl)
theorem dX3_both_2 : decode cX3_both 2 = .ok (.iconst 1, 1) := dk_4 (dk_at dksX3_both_0 2 rfl rfl)
theorem dX3_both_3 : decode cX3_both 3 = .ok (.invokevirtual 293, 3) := dk_182 1 37 (dk_at dksX3_both_0 3 rfl rfl)
theorem dX3_both_6 : decode cX3_both 6 = .ok (.ifCond .le 7, 3) := dk_158 0 7 (dk_at dksX3_both_0 6 rfl rfl)
theorem dX3_both_9 : decode cX3_both 9 = .ok (.iconst 1, 1) := dk_4 (dk_at dksX3_both_0 9 rfl rfl)
theorem dX3_both_10 : decode cX3_both 10 = .ok (.goto 4, 3) := dk_167 0 4 (dk_at dksX3_both_0 10 rfl rfl)
theorem dX3_both_13 : decode cX3_both 13 = .ok (.iconst 0, 1) := dk_3 (dk_at dksX3_both_0 13 rfl rfl)
theorem dX3_both_14 : decode cX3_both 14 = .ok (.aload_n 0, 1) := dk_42 (dk_at dksX3_both_0 14 rfl rfl)
theorem dX3_both_15 : decode cX3_both 15 = .ok (.iload_n 1, 1) := dk_27 (dk_at dksX3_both_0 15 rfl rfl)
theorem dX3_both_16 : decode cX3_both 16 = .ok (.iconst 2, 1) := dk_5 (dk_at dksX3_both_0 16 rfl rfl)
theorem dX3_both_17 : decode cX3_both 17 = .ok (.invokevirtual 293, 3) := dk_182 1 37 (dk_at dksX3_both_0 17 rfl rfl)
theorem dX3_both_20 : decode cX3_both 20 = .ok (.ifCond .le 7, 3) := dk_158 0 7 (dk_at dksX3_both_0 20 rfl rfl)
theorem dX3_both_23 : decode cX3_both 23 = .ok (.iconst 2, 1) := dk_5 (dk_at dksX3_both_0 23 rfl rfl)
theorem dX3_both_24 : decode cX3_both 24 = .ok (.goto 4, 3) := dk_167 0 4 (dk_at dksX3_both_1 0 rfl rfl)
theorem dX3_both_27 : decode cX3_both 27 = .ok (.iconst 0, 1) := dk_3 (dk_at dksX3_both_1 3 rfl rfl)
theorem dX3_both_28 : decode cX3_both 28 = .ok (.ior, 1) := dk_128 (dk_at dksX3_both_1 4 rfl rfl)
theorem dX3_both_29 : decode cX3_both 29 = .ok (.ireturn, 1) := dk_172 (dk_at dksX3_both_1 5 rfl rfl)
def dkwX3_lend_4 : List UInt8 := [104, 5, 96, 29, 79, 42, 89, 180, 1, 8, 4, 96, 181, 1, 8, 42, 180, 1, 8, 172]
abbrev dktX3_lend_4 : List UInt8 := dkwX3_lend_4 ++ []
def dkwX3_lend_3 : List UInt8 := [79, 42, 180, 0, 62, 6, 42, 180, 1, 8, 104, 4, 96, 28, 79, 42, 180, 0, 62, 6, 42, 180, 1, 8]
abbrev dktX3_lend_3 : List UInt8 := dkwX3_lend_3 ++ dktX3_lend_4
def dkwX3_lend_2 : List UInt8 := [29, 182, 1, 37, 154, 0, 9, 42, 4, 182, 1, 61, 172, 42, 180, 0, 62, 6, 42, 180, 1, 8, 104, 27]
abbrev dktX3_lend_2 : List UInt8 := dkwX3_lend_2 ++ dktX3_lend_3
def dkwX3_lend_1 : List UInt8 := [180, 1, 8, 16, 12, 159, 0, 26, 27, 28, 159, 0, 21, 29, 4, 5, 184, 1, 27, 153, 0, 12, 42, 27]
abbrev dktX3_lend_1 : List UInt8 := dkwX3_lend_1 ++ dktX3_lend_2
def dkwX3_lend_0 : List UInt8 := [42, 3, 181, 0, 134, 42, 27, 182, 1, 46, 153, 0, 11, 42, 28, 182, 1, 46, 154, 0, 5, 3, 172, 42]
abbrev dktX3_lend_0 : List UInt8 := dkwX3_lend_0 ++ dktX3_lend_1
theorem dksX3_lend_0 : cX3_lend.data.toList.drop 0 = dktX3_lend_0 := by decide +kernel
theorem dksX3_lend_1 : cX3_lend.data.toList.drop 24 = dktX3_lend_1 := dk_seg dksX3_lend_0 24 rfl rfl
theorem dksX3_lend_2 : cX3_lend.data.toList.drop 48 = dktX3_lend_2 := dk_seg dksX3_lend_1 24 rfl rfl
theorem dksX3_lend_3 : cX3_lend.data.toList.drop 72 = dktX3_lend_3 := dk_seg dksX3_lend_2 24 rfl rfl
theorem dksX3_lend_4 : cX3_lend.data.toList.drop 96 = dktX3_lend_4 := dk_seg dksX3_lend_3 24 rfl rfl
theorem dX3_lend_0 : decode cX3_lend 0 = .ok (.aload_n 0, 1) := dk_42 (dk_at dksX3_lend_0 0 rfl rfl)
theorem dX3_lend_1 : decode cX3_lend 1 = .ok (.iconst 0, 1) := dk_3 (dk_at dksX3_lend_0 1 rfl rfl)
theorem dX3_lend_2 : decode cX3_lend 2 = .ok (.putfield 134, 3) := dk_181 0 134 (dk_at dksX3_lend_0 2 rfl rfl)
theorem dX3_lend_5 : decode cX3_lend 5 = .ok (.aload_n 0, 1) := dk_42 (dk_at dksX3_lend_0 5 rfl rfl)
theorem dX3_lend_6 : decode cX3_lend 6 = .ok (.iload_n 1, 1) := dk_27 (dk_at dksX3_lend_0 6 rfl rfl)
theorem dX3_lend_7 : decode cX3_lend 7 = .ok (.invokevirtual 302, 3) := dk_182 1 46 (dk_at dksX3_lend_0 7 rfl rfl)
theorem dX3_lend_10 : decode cX3_lend 10 = .ok (.ifCond .eq 11, 3) := dk_153 0 11 (dk_at dksX3_lend_0 10 rfl rfl)
theorem dX3_lend_13 : decode cX3_lend 13 = .ok (.aload_n 0, 1) := dk_42 (dk_at dksX3_lend_0 13 rfl rfl)
theorem dX3_lend_14 : decode cX3_lend 14 = .ok (.iload_n 2, 1) := dk_28 (dk_at dksX3_lend_0 14 rfl rfl)
theorem dX3_lend_15 : decode cX3_lend 15 = .ok (.invokevirtual 302, 3) := dk_182 1 46 (dk_at dksX3_lend_0 15 rfl rfl)
theorem dX3_lend_18 : decode cX3_lend 18 = .ok (.ifCond .ne 5, 3) := dk_154 0 5 (dk_at dksX3_lend_0 18 rfl rfl)
theorem dX3_lend_21 : decode cX3_lend 21 = .ok (.iconst 0, 1) := dk_3 (dk_at dksX3_lend_0 21 rfl rfl)
theorem dX3_lend_22 : decode cX3_lend 22 = .ok (.ireturn, 1) := dk_172 (dk_at dksX3_lend_0 22 rfl rfl)
theorem dX3_lend_23 : decode cX3_lend 23 = .ok (.aload_n 0, 1) := dk_42 (dk_at dksX3_lend_0 23 rfl rfl)
theorem dX3_lend_24 : decode cX3_lend 24 = .ok (.getfield 264, 3) := dk_180 1 8 (dk_at dksX3_lend_1 0 rfl rfl)
theorem dX3_lend_27 : decode cX3_lend 27 = .ok (.bipush 12, 2) := dk_16 12 (dk_at dksX3_lend_1 3 rfl rfl)
theorem dX3_lend_29 : decode cX3_lend 29 = .ok (.if_icmp .eq 26, 3) := dk_159 0 26 (dk_at dksX3_lend_1 5 rfl rfl)
theorem dX3_lend_32 : decode cX3_lend 32 = .ok (.iload_n 1, 1) := dk_27 (dk_at dksX3_lend_1 8 rfl rfl)
theorem dX3_lend_33 : decode cX3_lend 33 = .ok (.iload_n 2, 1) := dk_28 (dk_at dksX3_lend_1 9 rfl rfl)
theorem dX3_lend_34 : decode cX3_lend 34 = .ok (.if_icmp .eq 21, 3) := dk_159 0 21 (dk_at dksX3_lend_1 10 rfl rfl)
theorem dX3_lend_37 : decode cX3_lend 37 = .ok (.iload_n 3, 1) := dk_29 (dk_at dksX3_lend_1 13 rfl rfl)
theorem dX3_lend_38 : decode cX3_lend 38 = .ok (.iconst 1, 1) := dk_4 (dk_at dksX3_lend_1 14 rfl rfl)
theorem dX3_lend_39 : decode cX3_lend 39 = .ok (.iconst 2, 1) := dk_5 (dk_at dksX3_lend_1 15 rfl rfl)
theorem dX3_lend_40 : decode cX3_lend 40 = .ok (.invokestatic 283, 3) := dk_184 1 27 (dk_at dksX3_lend_1 16 rfl rfl)
theorem dX3_lend_43 : decode cX3_lend 43 = .ok (.ifCond .eq 12, 3) := dk_153 0 12 (dk_at dksX3_lend_1 19 rfl rfl)
theorem dX3_lend_46 : decode cX3_lend 46 = .ok (.aload_n 0, 1) := dk_42 (dk_at dksX3_lend_1 22 rfl rfl)
theorem dX3_lend_47 : decode cX3_lend 47 = .ok (.iload_n 1, 1) := dk_27 (dk_at dksX3_lend_1 23 rfl rfl)
theorem dX3_lend_48 : decode cX3_lend 48 = .ok (.iload_n 3, 1) := dk_29 (dk_at dksX3_lend_2 0 rfl rfl)
theorem dX3_lend_49 : decode cX3_lend 49 = .ok (.invokevirtual 293, 3) := dk_182 1 37 (dk_at dksX3_lend_2 1 rfl rfl)
theorem dX3_lend_52 : decode cX3_lend 52 = .ok (.ifCond .ne 9, 3) := dk_154 0 9 (dk_at dksX3_lend_2 4 rfl rfl)
theorem dX3_lend_55 : decode cX3_lend 55 = .ok (.aload_n 0, 1) := dk_42 (dk_at dksX3_lend_2 7 rfl rfl)
theorem dX3_lend_56 : decode cX3_lend 56 = .ok (.iconst 1, 1) := dk_4 (dk_at dksX3_lend_2 8 rfl rfl)
theorem dX3_lend_57 : decode cX3_lend 57 = .ok (.invokevirtual 317, 3) := dk_182 1 61 (dk_at dksX3_lend_2 9 rfl rfl)
theorem dX3_lend_60 : decode cX3_lend 60 = .ok (.ireturn, 1) := dk_172 (dk_at dksX3_lend_2 12 rfl rfl)
theorem dX3_lend_61 : decode cX3_lend 61 = .ok (.aload_n 0, 1) := dk_42 (dk_at dksX3_lend_2 13 rfl rfl)
theorem dX3_lend_62 : decode cX3_lend 62 = .ok (.getfield 62, 3) := dk_180 0 62 (dk_at dksX3_lend_2 14 rfl rfl)
theorem dX3_lend_65 : decode cX3_lend 65 = .ok (.iconst 3, 1) := dk_6 (dk_at dksX3_lend_2 17 rfl rfl)
theorem dX3_lend_66 : decode cX3_lend 66 = .ok (.aload_n 0, 1) := dk_42 (dk_at dksX3_lend_2 18 rfl rfl)
theorem dX3_lend_67 : decode cX3_lend 67 = .ok (.getfield 264, 3) := dk_180 1 8 (dk_at dksX3_lend_2 19 rfl rfl)
theorem dX3_lend_70 : decode cX3_lend 70 = .ok (.imul, 1) := dk_104 (dk_at dksX3_lend_2 22 rfl rfl)
theorem dX3_lend_71 : decode cX3_lend 71 = .ok (.iload_n 1, 1) := dk_27 (dk_at dksX3_lend_2 23 rfl rfl)
theorem dX3_lend_72 : decode cX3_lend 72 = .ok (.iastore, 1) := dk_79 (dk_at dksX3_lend_3 0 rfl rfl)
theorem dX3_lend_73 : decode cX3_lend 73 = .ok (.aload_n 0, 1) := dk_42 (dk_at dksX3_lend_3 1 rfl rfl)
theorem dX3_lend_74 : decode cX3_lend 74 = .ok (.getfield 62, 3) := dk_180 0 62 (dk_at dksX3_lend_3 2 rfl rfl)
theorem dX3_lend_77 : decode cX3_lend 77 = .ok (.iconst 3, 1) := dk_6 (dk_at dksX3_lend_3 5 rfl rfl)
theorem dX3_lend_78 : decode cX3_lend 78 = .ok (.aload_n 0, 1) := dk_42 (dk_at dksX3_lend_3 6 rfl rfl)
theorem dX3_lend_79 : decode cX3_lend 79 = .ok (.getfield 264, 3) := dk_180 1 8 (dk_at dksX3_lend_3 7 rfl rfl)
theorem dX3_lend_82 : decode cX3_lend 82 = .ok (.imul, 1) := dk_104 (dk_at dksX3_lend_3 10 rfl rfl)
theorem dX3_lend_83 : decode cX3_lend 83 = .ok (.iconst 1, 1) := dk_4 (dk_at dksX3_lend_3 11 rfl rfl)
theorem dX3_lend_84 : decode cX3_lend 84 = .ok (.iadd, 1) := dk_96 (dk_at dksX3_lend_3 12 rfl rfl)
theorem dX3_lend_85 : decode cX3_lend 85 = .ok (.iload_n 2, 1) := dk_28 (dk_at dksX3_lend_3 13 rfl rfl)
theorem dX3_lend_86 : decode cX3_lend 86 = .ok (.iastore, 1) := dk_79 (dk_at dksX3_lend_3 14 rfl rfl)
theorem dX3_lend_87 : decode cX3_lend 87 = .ok (.aload_n 0, 1) := dk_42 (dk_at dksX3_lend_3 15 rfl rfl)
theorem dX3_lend_88 : decode cX3_lend 88 = .ok (.getfield 62, 3) := dk_180 0 62 (dk_at dksX3_lend_3 16 rfl rfl)
theorem dX3_lend_91 : decode cX3_lend 91 = .ok (.iconst 3, 1) := dk_6 (dk_at dksX3_lend_3 19 rfl rfl)
theorem dX3_lend_92 : decode cX3_lend 92 = .ok (.aload_n 0, 1) := dk_42 (dk_at dksX3_lend_3 20 rfl rfl)
theorem dX3_lend_93 : decode cX3_lend 93 = .ok (.getfield 264, 3) := dk_180 1 8 (dk_at dksX3_lend_3 21 rfl rfl)
theorem dX3_lend_96 : decode cX3_lend 96 = .ok (.imul, 1) := dk_104 (dk_at dksX3_lend_4 0 rfl rfl)
theorem dX3_lend_97 : decode cX3_lend 97 = .ok (.iconst 2, 1) := dk_5 (dk_at dksX3_lend_4 1 rfl rfl)
theorem dX3_lend_98 : decode cX3_lend 98 = .ok (.iadd, 1) := dk_96 (dk_at dksX3_lend_4 2 rfl rfl)
theorem dX3_lend_99 : decode cX3_lend 99 = .ok (.iload_n 3, 1) := dk_29 (dk_at dksX3_lend_4 3 rfl rfl)
theorem dX3_lend_100 : decode cX3_lend 100 = .ok (.iastore, 1) := dk_79 (dk_at dksX3_lend_4 4 rfl rfl)
theorem dX3_lend_101 : decode cX3_lend 101 = .ok (.aload_n 0, 1) := dk_42 (dk_at dksX3_lend_4 5 rfl rfl)
theorem dX3_lend_102 : decode cX3_lend 102 = .ok (.dup, 1) := dk_89 (dk_at dksX3_lend_4 6 rfl rfl)
theorem dX3_lend_103 : decode cX3_lend 103 = .ok (.getfield 264, 3) := dk_180 1 8 (dk_at dksX3_lend_4 7 rfl rfl)
theorem dX3_lend_106 : decode cX3_lend 106 = .ok (.iconst 1, 1) := dk_4 (dk_at dksX3_lend_4 10 rfl rfl)
theorem dX3_lend_107 : decode cX3_lend 107 = .ok (.iadd, 1) := dk_96 (dk_at dksX3_lend_4 11 rfl rfl)
theorem dX3_lend_108 : decode cX3_lend 108 = .ok (.putfield 264, 3) := dk_181 1 8 (dk_at dksX3_lend_4 12 rfl rfl)
theorem dX3_lend_111 : decode cX3_lend 111 = .ok (.aload_n 0, 1) := dk_42 (dk_at dksX3_lend_4 15 rfl rfl)
theorem dX3_lend_112 : decode cX3_lend 112 = .ok (.getfield 264, 3) := dk_180 1 8 (dk_at dksX3_lend_4 16 rfl rfl)
theorem dX3_lend_115 : decode cX3_lend 115 = .ok (.ireturn, 1) := dk_172 (dk_at dksX3_lend_4 19 rfl rfl)
def dkwX3_refuses_0 : List UInt8 := [42, 180, 0, 38, 27, 92, 46, 4, 96, 79, 2, 172]
abbrev dktX3_refuses_0 : List UInt8 := dkwX3_refuses_0 ++ []
theorem dksX3_refuses_0 : cX3_refuses.data.toList.drop 0 = dktX3_refuses_0 := by decide +kernel
theorem dX3_refuses_0 : decode cX3_refuses 0 = .ok (.aload_n 0, 1) := dk_42 (dk_at dksX3_refuses_0 0 rfl rfl)
theorem dX3_refuses_1 : decode cX3_refuses 1 = .ok (.getfield 38, 3) := dk_180 0 38 (dk_at dksX3_refuses_0 1 rfl rfl)
theorem dX3_refuses_4 : decode cX3_refuses 4 = .ok (.iload_n 1, 1) := dk_27 (dk_at dksX3_refuses_0 4 rfl rfl)
theorem dX3_refuses_5 : decode cX3_refuses 5 = .ok (.dup2, 1) := dk_92 (dk_at dksX3_refuses_0 5 rfl rfl)
theorem dX3_refuses_6 : decode cX3_refuses 6 = .ok (.iaload, 1) := dk_46 (dk_at dksX3_refuses_0 6 rfl rfl)
theorem dX3_refuses_7 : decode cX3_refuses 7 = .ok (.iconst 1, 1) := dk_4 (dk_at dksX3_refuses_0 7 rfl rfl)
theorem dX3_refuses_8 : decode cX3_refuses 8 = .ok (.iadd, 1) := dk_96 (dk_at dksX3_refuses_0 8 rfl rfl)
theorem dX3_refuses_9 : decode cX3_refuses 9 = .ok (.iastore, 1) := dk_79 (dk_at dksX3_refuses_0 9 rfl rfl)
theorem dX3_refuses_10 : decode cX3_refuses 10 = .ok (.iconst (-1), 1) := dk_2 (dk_at dksX3_refuses_0 10 rfl rfl)
theorem dX3_refuses_11 : decode cX3_refuses 11 = .ok (.ireturn, 1) := dk_172 (dk_at dksX3_refuses_0 11 rfl rfl)
def dkwX3_back_1 : List UInt8 := [42, 180, 1, 8, 172]
abbrev dktX3_back_1 : List UInt8 := dkwX3_back_1 ++ []
def dkwX3_back_0 : List UInt8 := [42, 3, 181, 0, 134, 42, 180, 1, 8, 154, 0, 5, 2, 172, 42, 89, 180, 1, 8, 4, 100, 181, 1, 8]
abbrev dktX3_back_0 : List UInt8 := dkwX3_back_0 ++ dktX3_back_1
theorem dksX3_back_0 : cX3_back.data.toList.drop 0 = dktX3_back_0 := by decide +kernel
theorem dksX3_back_1 : cX3_back.data.toList.drop 24 = dktX3_back_1 := dk_seg dksX3_back_0 24 rfl rfl
theorem dX3_back_0 : decode cX3_back 0 = .ok (.aload_n 0, 1) := dk_42 (dk_at dksX3_back_0 0 rfl rfl)
theorem dX3_back_1 : decode cX3_back 1 = .ok (.iconst 0, 1) := dk_3 (dk_at dksX3_back_0 1 rfl rfl)
theorem dX3_back_2 : decode cX3_back 2 = .ok (.putfield 134, 3) := dk_181 0 134 (dk_at dksX3_back_0 2 rfl rfl)
theorem dX3_back_5 : decode cX3_back 5 = .ok (.aload_n 0, 1) := dk_42 (dk_at dksX3_back_0 5 rfl rfl)
theorem dX3_back_6 : decode cX3_back 6 = .ok (.getfield 264, 3) := dk_180 1 8 (dk_at dksX3_back_0 6 rfl rfl)
theorem dX3_back_9 : decode cX3_back 9 = .ok (.ifCond .ne 5, 3) := dk_154 0 5 (dk_at dksX3_back_0 9 rfl rfl)
theorem dX3_back_12 : decode cX3_back 12 = .ok (.iconst (-1), 1) := dk_2 (dk_at dksX3_back_0 12 rfl rfl)
theorem dX3_back_13 : decode cX3_back 13 = .ok (.ireturn, 1) := dk_172 (dk_at dksX3_back_0 13 rfl rfl)
theorem dX3_back_14 : decode cX3_back 14 = .ok (.aload_n 0, 1) := dk_42 (dk_at dksX3_back_0 14 rfl rfl)
theorem dX3_back_15 : decode cX3_back 15 = .ok (.dup, 1) := dk_89 (dk_at dksX3_back_0 15 rfl rfl)
theorem dX3_back_16 : decode cX3_back 16 = .ok (.getfield 264, 3) := dk_180 1 8 (dk_at dksX3_back_0 16 rfl rfl)
theorem dX3_back_19 : decode cX3_back 19 = .ok (.iconst 1, 1) := dk_4 (dk_at dksX3_back_0 19 rfl rfl)
theorem dX3_back_20 : decode cX3_back 20 = .ok (.isub, 1) := dk_100 (dk_at dksX3_back_0 20 rfl rfl)
theorem dX3_back_21 : decode cX3_back 21 = .ok (.putfield 264, 3) := dk_181 1 8 (dk_at dksX3_back_0 21 rfl rfl)
theorem dX3_back_24 : decode cX3_back 24 = .ok (.aload_n 0, 1) := dk_42 (dk_at dksX3_back_1 0 rfl rfl)
theorem dX3_back_25 : decode cX3_back 25 = .ok (.getfield 264, 3) := dk_180 1 8 (dk_at dksX3_back_1 1 rfl rfl)
theorem dX3_back_28 : decode cX3_back 28 = .ok (.ireturn, 1) := dk_172 (dk_at dksX3_back_1 4 rfl rfl)
def dkwX3_draw_5 : List UInt8 := [167, 255, 157, 132, 3, 1, 167, 255, 142, 177]
abbrev dktX3_draw_5 : List UInt8 := dkwX3_draw_5 ++ []
def dkwX3_draw_4 : List UInt8 := [167, 255, 239, 42, 180, 0, 65, 16, 24, 21, 4, 104, 29, 96, 21, 5, 184, 1, 24, 79, 132, 4, 1]
abbrev dktX3_draw_4 : List UInt8 := dkwX3_draw_4 ++ dktX3_draw_5
def dkwX3_draw_3 : List UInt8 := [21, 6, 112, 54, 7, 21, 7, 158, 0, 18, 21, 5, 21, 5, 4, 100, 126, 54, 5, 132, 7, 255]
abbrev dktX3_draw_3 : List UInt8 := dkwX3_draw_3 ++ dktX3_draw_4
def dkwX3_draw_2 : List UInt8 := [21, 6, 4, 164, 0, 46, 28, 19, 1, 64, 104, 17, 48, 57, 96, 61, 28, 16, 16, 122, 17, 127, 255, 126]
abbrev dktX3_draw_2 : List UInt8 := dkwX3_draw_2 ++ dktX3_draw_3
def dkwX3_draw_1 : List UInt8 := [162, 0, 96, 42, 180, 0, 28, 16, 24, 21, 4, 104, 29, 96, 46, 54, 5, 21, 5, 184, 1, 52, 54, 6]
abbrev dktX3_draw_1 : List UInt8 := dkwX3_draw_1 ++ dktX3_draw_2
def dkwX3_draw_0 : List UInt8 := [42, 3, 181, 0, 134, 27, 61, 3, 62, 29, 16, 24, 162, 0, 114, 3, 54, 4, 21, 4, 42, 180, 0, 251]
abbrev dktX3_draw_0 : List UInt8 := dkwX3_draw_0 ++ dktX3_draw_1
theorem dksX3_draw_0 : cX3_draw.data.toList.drop 0 = dktX3_draw_0 := by decide +kernel
theorem dksX3_draw_1 : cX3_draw.data.toList.drop 24 = dktX3_draw_1 := dk_seg dksX3_draw_0 24 rfl rfl
theorem dksX3_draw_2 : cX3_draw.data.toList.drop 48 = dktX3_draw_2 := dk_seg dksX3_draw_1 24 rfl rfl
theorem dksX3_draw_3 : cX3_draw.data.toList.drop 72 = dktX3_draw_3 := dk_seg dksX3_draw_2 24 rfl rfl
theorem dksX3_draw_4 : cX3_draw.data.toList.drop 94 = dktX3_draw_4 := dk_seg dksX3_draw_3 22 rfl rfl
theorem dksX3_draw_5 : cX3_draw.data.toList.drop 117 = dktX3_draw_5 := dk_seg dksX3_draw_4 23 rfl rfl
theorem dX3_draw_0 : decode cX3_draw 0 = .ok (.aload_n 0, 1) := dk_42 (dk_at dksX3_draw_0 0 rfl rfl)
theorem dX3_draw_1 : decode cX3_draw 1 = .ok (.iconst 0, 1) := dk_3 (dk_at dksX3_draw_0 1 rfl rfl)
theorem dX3_draw_2 : decode cX3_draw 2 = .ok (.putfield 134, 3) := dk_181 0 134 (dk_at dksX3_draw_0 2 rfl rfl)
theorem dX3_draw_5 : decode cX3_draw 5 = .ok (.iload_n 1, 1) := dk_27 (dk_at dksX3_draw_0 5 rfl rfl)
theorem dX3_draw_6 : decode cX3_draw 6 = .ok (.istore_n 2, 1) := dk_61 (dk_at dksX3_draw_0 6 rfl rfl)
theorem dX3_draw_7 : decode cX3_draw 7 = .ok (.iconst 0, 1) := dk_3 (dk_at dksX3_draw_0 7 rfl rfl)
theorem dX3_draw_8 : decode cX3_draw 8 = .ok (.istore_n 3, 1) := dk_62 (dk_at dksX3_draw_0 8 rfl rfl)
theorem dX3_draw_9 : decode cX3_draw 9 = .ok (.iload_n 3, 1) := dk_29 (dk_at dksX3_draw_0 9 rfl rfl)
theorem dX3_draw_10 : decode cX3_draw 10 = .ok (.bipush 24, 2) := dk_16 24 (dk_at dksX3_draw_0 10 rfl rfl)
theorem dX3_draw_12 : decode cX3_draw 12 = .ok (.if_icmp .ge 114, 3) := dk_162 0 114 (dk_at dksX3_draw_0 12 rfl rfl)
theorem dX3_draw_15 : decode cX3_draw 15 = .ok (.iconst 0, 1) := dk_3 (dk_at dksX3_draw_0 15 rfl rfl)
theorem dX3_draw_16 : decode cX3_draw 16 = .ok (.istore 4, 2) := dk_54 4 (dk_at dksX3_draw_0 16 rfl rfl)
theorem dX3_draw_18 : decode cX3_draw 18 = .ok (.iload 4, 2) := dk_21 4 (dk_at dksX3_draw_0 18 rfl rfl)
theorem dX3_draw_20 : decode cX3_draw 20 = .ok (.aload_n 0, 1) := dk_42 (dk_at dksX3_draw_0 20 rfl rfl)
theorem dX3_draw_21 : decode cX3_draw 21 = .ok (.getfield 251, 3) := dk_180 0 251 (dk_at dksX3_draw_0 21 rfl rfl)
theorem dX3_draw_24 : decode cX3_draw 24 = .ok (.if_icmp .ge 96, 3) := dk_162 0 96 (dk_at dksX3_draw_1 0 rfl rfl)
theorem dX3_draw_27 : decode cX3_draw 27 = .ok (.aload_n 0, 1) := dk_42 (dk_at dksX3_draw_1 3 rfl rfl)
theorem dX3_draw_28 : decode cX3_draw 28 = .ok (.getfield 28, 3) := dk_180 0 28 (dk_at dksX3_draw_1 4 rfl rfl)
theorem dX3_draw_31 : decode cX3_draw 31 = .ok (.bipush 24, 2) := dk_16 24 (dk_at dksX3_draw_1 7 rfl rfl)
theorem dX3_draw_33 : decode cX3_draw 33 = .ok (.iload 4, 2) := dk_21 4 (dk_at dksX3_draw_1 9 rfl rfl)
theorem dX3_draw_35 : decode cX3_draw 35 = .ok (.imul, 1) := dk_104 (dk_at dksX3_draw_1 11 rfl rfl)
theorem dX3_draw_36 : decode cX3_draw 36 = .ok (.iload_n 3, 1) := dk_29 (dk_at dksX3_draw_1 12 rfl rfl)
theorem dX3_draw_37 : decode cX3_draw 37 = .ok (.iadd, 1) := dk_96 (dk_at dksX3_draw_1 13 rfl rfl)
theorem dX3_draw_38 : decode cX3_draw 38 = .ok (.iaload, 1) := dk_46 (dk_at dksX3_draw_1 14 rfl rfl)
theorem dX3_draw_39 : decode cX3_draw 39 = .ok (.istore 5, 2) := dk_54 5 (dk_at dksX3_draw_1 15 rfl rfl)
theorem dX3_draw_41 : decode cX3_draw 41 = .ok (.iload 5, 2) := dk_21 5 (dk_at dksX3_draw_1 17 rfl rfl)
theorem dX3_draw_43 : decode cX3_draw 43 = .ok (.invokestatic 308, 3) := dk_184 1 52 (dk_at dksX3_draw_1 19 rfl rfl)
theorem dX3_draw_46 : decode cX3_draw 46 = .ok (.istore 6, 2) := dk_54 6 (dk_at dksX3_draw_1 22 rfl rfl)
theorem dX3_draw_48 : decode cX3_draw 48 = .ok (.iload 6, 2) := dk_21 6 (dk_at dksX3_draw_2 0 rfl rfl)
theorem dX3_draw_50 : decode cX3_draw 50 = .ok (.iconst 1, 1) := dk_4 (dk_at dksX3_draw_2 2 rfl rfl)
theorem dX3_draw_51 : decode cX3_draw 51 = .ok (.if_icmp .le 46, 3) := dk_164 0 46 (dk_at dksX3_draw_2 3 rfl rfl)
theorem dX3_draw_54 : decode cX3_draw 54 = .ok (.iload_n 2, 1) := dk_28 (dk_at dksX3_draw_2 6 rfl rfl)
theorem dX3_draw_55 : decode cX3_draw 55 = .ok (.ldc_w 320, 3) := dk_19 1 64 (dk_at dksX3_draw_2 7 rfl rfl)
theorem dX3_draw_58 : decode cX3_draw 58 = .ok (.imul, 1) := dk_104 (dk_at dksX3_draw_2 10 rfl rfl)
theorem dX3_draw_59 : decode cX3_draw 59 = .ok (.sipush 12345, 3) := dk_17 48 57 (dk_at dksX3_draw_2 11 rfl rfl)
theorem dX3_draw_62 : decode cX3_draw 62 = .ok (.iadd, 1) := dk_96 (dk_at dksX3_draw_2 14 rfl rfl)
theorem dX3_draw_63 : decode cX3_draw 63 = .ok (.istore_n 2, 1) := dk_61 (dk_at dksX3_draw_2 15 rfl rfl)
theorem dX3_draw_64 : decode cX3_draw 64 = .ok (.iload_n 2, 1) := dk_28 (dk_at dksX3_draw_2 16 rfl rfl)
theorem dX3_draw_65 : decode cX3_draw 65 = .ok (.bipush 16, 2) := dk_16 16 (dk_at dksX3_draw_2 17 rfl rfl)
theorem dX3_draw_67 : decode cX3_draw 67 = .ok (.ishr, 1) := dk_122 (dk_at dksX3_draw_2 19 rfl rfl)
theorem dX3_draw_68 : decode cX3_draw 68 = .ok (.sipush 32767, 3) := dk_17 127 255 (dk_at dksX3_draw_2 20 rfl rfl)
theorem dX3_draw_71 : decode cX3_draw 71 = .ok (.iand, 1) := dk_126 (dk_at dksX3_draw_2 23 rfl rfl)
theorem dX3_draw_72 : decode cX3_draw 72 = .ok (.iload 6, 2) := dk_21 6 (dk_at dksX3_draw_3 0 rfl rfl)
theorem dX3_draw_74 : decode cX3_draw 74 = .ok (.irem, 1) := dk_112 (dk_at dksX3_draw_3 2 rfl rfl)
theorem dX3_draw_75 : decode cX3_draw 75 = .ok (.istore 7, 2) := dk_54 7 (dk_at dksX3_draw_3 3 rfl rfl)
theorem dX3_draw_77 : decode cX3_draw 77 = .ok (.iload 7, 2) := dk_21 7 (dk_at dksX3_draw_3 5 rfl rfl)
theorem dX3_draw_79 : decode cX3_draw 79 = .ok (.ifCond .le 18, 3) := dk_158 0 18 (dk_at dksX3_draw_3 7 rfl rfl)
theorem dX3_draw_82 : decode cX3_draw 82 = .ok (.iload 5, 2) := dk_21 5 (dk_at dksX3_draw_3 10 rfl rfl)
theorem dX3_draw_84 : decode cX3_draw 84 = .ok (.iload 5, 2) := dk_21 5 (dk_at dksX3_draw_3 12 rfl rfl)
theorem dX3_draw_86 : decode cX3_draw 86 = .ok (.iconst 1, 1) := dk_4 (dk_at dksX3_draw_3 14 rfl rfl)
theorem dX3_draw_87 : decode cX3_draw 87 = .ok (.isub, 1) := dk_100 (dk_at dksX3_draw_3 15 rfl rfl)
theorem dX3_draw_88 : decode cX3_draw 88 = .ok (.iand, 1) := dk_126 (dk_at dksX3_draw_3 16 rfl rfl)
theorem dX3_draw_89 : decode cX3_draw 89 = .ok (.istore 5, 2) := dk_54 5 (dk_at dksX3_draw_3 17 rfl rfl)
theorem dX3_draw_91 : decode cX3_draw 91 = .ok (.iinc 7 (-1), 3) := dk_132 7 255 (dk_at dksX3_draw_3 19 rfl rfl)
theorem dX3_draw_94 : decode cX3_draw 94 = .ok (.goto (-17), 3) := dk_167 255 239 (dk_at dksX3_draw_4 0 rfl rfl)
theorem dX3_draw_97 : decode cX3_draw 97 = .ok (.aload_n 0, 1) := dk_42 (dk_at dksX3_draw_4 3 rfl rfl)
theorem dX3_draw_98 : decode cX3_draw 98 = .ok (.getfield 65, 3) := dk_180 0 65 (dk_at dksX3_draw_4 4 rfl rfl)
theorem dX3_draw_101 : decode cX3_draw 101 = .ok (.bipush 24, 2) := dk_16 24 (dk_at dksX3_draw_4 7 rfl rfl)
theorem dX3_draw_103 : decode cX3_draw 103 = .ok (.iload 4, 2) := dk_21 4 (dk_at dksX3_draw_4 9 rfl rfl)
theorem dX3_draw_105 : decode cX3_draw 105 = .ok (.imul, 1) := dk_104 (dk_at dksX3_draw_4 11 rfl rfl)
theorem dX3_draw_106 : decode cX3_draw 106 = .ok (.iload_n 3, 1) := dk_29 (dk_at dksX3_draw_4 12 rfl rfl)
theorem dX3_draw_107 : decode cX3_draw 107 = .ok (.iadd, 1) := dk_96 (dk_at dksX3_draw_4 13 rfl rfl)
theorem dX3_draw_108 : decode cX3_draw 108 = .ok (.iload 5, 2) := dk_21 5 (dk_at dksX3_draw_4 14 rfl rfl)
theorem dX3_draw_110 : decode cX3_draw 110 = .ok (.invokestatic 280, 3) := dk_184 1 24 (dk_at dksX3_draw_4 16 rfl rfl)
theorem dX3_draw_113 : decode cX3_draw 113 = .ok (.iastore, 1) := dk_79 (dk_at dksX3_draw_4 19 rfl rfl)
theorem dX3_draw_114 : decode cX3_draw 114 = .ok (.iinc 4 1, 3) := dk_132 4 1 (dk_at dksX3_draw_4 20 rfl rfl)
theorem dX3_draw_117 : decode cX3_draw 117 = .ok (.goto (-99), 3) := dk_167 255 157 (dk_at dksX3_draw_5 0 rfl rfl)
theorem dX3_draw_120 : decode cX3_draw 120 = .ok (.iinc 3 1, 3) := dk_132 3 1 (dk_at dksX3_draw_5 3 rfl rfl)
theorem dX3_draw_123 : decode cX3_draw 123 = .ok (.goto (-114), 3) := dk_167 255 142 (dk_at dksX3_draw_5 6 rfl rfl)
theorem dX3_draw_126 : decode cX3_draw 126 = .ok (.return_, 1) := dk_177 (dk_at dksX3_draw_5 9 rfl rfl)
def dkwX3_does_1 : List UInt8 := [180, 0, 65, 16, 24, 27, 104, 28, 96, 46, 184, 1, 55, 167, 0, 4, 3, 172]
abbrev dktX3_does_1 : List UInt8 := dkwX3_does_1 ++ []
def dkwX3_does_0 : List UInt8 := [42, 3, 181, 0, 134, 42, 27, 182, 1, 46, 153, 0, 28, 42, 28, 182, 1, 49, 153, 0, 20, 42]
abbrev dktX3_does_0 : List UInt8 := dkwX3_does_0 ++ dktX3_does_1
theorem dksX3_does_0 : cX3_does.data.toList.drop 0 = dktX3_does_0 := by decide +kernel
theorem dksX3_does_1 : cX3_does.data.toList.drop 22 = dktX3_does_1 := dk_seg dksX3_does_0 22 rfl rfl
theorem dX3_does_0 : decode cX3_does 0 = .ok (.aload_n 0, 1) := dk_42 (dk_at dksX3_does_0 0 rfl rfl)
theorem dX3_does_1 : decode cX3_does 1 = .ok (.iconst 0, 1) := dk_3 (dk_at dksX3_does_0 1 rfl rfl)
theorem dX3_does_2 : decode cX3_does 2 = .ok (.putfield 134, 3) := dk_181 0 134 (dk_at dksX3_does_0 2 rfl rfl)
theorem dX3_does_5 : decode cX3_does 5 = .ok (.aload_n 0, 1) := dk_42 (dk_at dksX3_does_0 5 rfl rfl)
theorem dX3_does_6 : decode cX3_does 6 = .ok (.iload_n 1, 1) := dk_27 (dk_at dksX3_does_0 6 rfl rfl)
theorem dX3_does_7 : decode cX3_does 7 = .ok (.invokevirtual 302, 3) := dk_182 1 46 (dk_at dksX3_does_0 7 rfl rfl)
theorem dX3_does_10 : decode cX3_does 10 = .ok (.ifCond .eq 28, 3) := dk_153 0 28 (dk_at dksX3_does_0 10 rfl rfl)
theorem dX3_does_13 : decode cX3_does 13 = .ok (.aload_n 0, 1) := dk_42 (dk_at dksX3_does_0 13 rfl rfl)
theorem dX3_does_14 : decode cX3_does 14 = .ok (.iload_n 2, 1) := dk_28 (dk_at dksX3_does_0 14 rfl rfl)
theorem dX3_does_15 : decode cX3_does 15 = .ok (.invokevirtual 305, 3) := dk_182 1 49 (dk_at dksX3_does_0 15 rfl rfl)
theorem dX3_does_18 : decode cX3_does 18 = .ok (.ifCond .eq 20, 3) := dk_153 0 20 (dk_at dksX3_does_0 18 rfl rfl)
theorem dX3_does_21 : decode cX3_does 21 = .ok (.aload_n 0, 1) := dk_42 (dk_at dksX3_does_0 21 rfl rfl)
theorem dX3_does_22 : decode cX3_does 22 = .ok (.getfield 65, 3) := dk_180 0 65 (dk_at dksX3_does_1 0 rfl rfl)
theorem dX3_does_25 : decode cX3_does 25 = .ok (.bipush 24, 2) := dk_16 24 (dk_at dksX3_does_1 3 rfl rfl)
theorem dX3_does_27 : decode cX3_does 27 = .ok (.iload_n 1, 1) := dk_27 (dk_at dksX3_does_1 5 rfl rfl)
theorem dX3_does_28 : decode cX3_does 28 = .ok (.imul, 1) := dk_104 (dk_at dksX3_does_1 6 rfl rfl)
theorem dX3_does_29 : decode cX3_does 29 = .ok (.iload_n 2, 1) := dk_28 (dk_at dksX3_does_1 7 rfl rfl)
theorem dX3_does_30 : decode cX3_does 30 = .ok (.iadd, 1) := dk_96 (dk_at dksX3_does_1 8 rfl rfl)
theorem dX3_does_31 : decode cX3_does 31 = .ok (.iaload, 1) := dk_46 (dk_at dksX3_does_1 9 rfl rfl)
theorem dX3_does_32 : decode cX3_does 32 = .ok (.invokestatic 311, 3) := dk_184 1 55 (dk_at dksX3_does_1 10 rfl rfl)
theorem dX3_does_35 : decode cX3_does 35 = .ok (.goto 4, 3) := dk_167 0 4 (dk_at dksX3_does_1 13 rfl rfl)
theorem dX3_does_38 : decode cX3_does 38 = .ok (.iconst 0, 1) := dk_3 (dk_at dksX3_does_1 16 rfl rfl)
theorem dX3_does_39 : decode cX3_does 39 = .ok (.ireturn, 1) := dk_172 (dk_at dksX3_does_1 17 rfl rfl)
def dkwX3_sign_1 : List UInt8 := [182, 1, 65, 167, 0, 4, 3, 172]
abbrev dktX3_sign_1 : List UInt8 := dkwX3_sign_1 ++ []
def dkwX3_sign_0 : List UInt8 := [42, 3, 181, 0, 134, 42, 27, 182, 1, 31, 153, 0, 20, 42, 28, 182, 1, 49, 153, 0, 12, 42, 27, 28]
abbrev dktX3_sign_0 : List UInt8 := dkwX3_sign_0 ++ dktX3_sign_1
theorem dksX3_sign_0 : cX3_sign.data.toList.drop 0 = dktX3_sign_0 := by decide +kernel
theorem dksX3_sign_1 : cX3_sign.data.toList.drop 24 = dktX3_sign_1 := dk_seg dksX3_sign_0 24 rfl rfl
theorem dX3_sign_0 : decode cX3_sign 0 = .ok (.aload_n 0, 1) := dk_42 (dk_at dksX3_sign_0 0 rfl rfl)
theorem dX3_sign_1 : decode cX3_sign 1 = .ok (.iconst 0, 1) := dk_3 (dk_at dksX3_sign_0 1 rfl rfl)
theorem dX3_sign_2 : decode cX3_sign 2 = .ok (.putfield 134, 3) := dk_181 0 134 (dk_at dksX3_sign_0 2 rfl rfl)
theorem dX3_sign_5 : decode cX3_sign 5 = .ok (.aload_n 0, 1) := dk_42 (dk_at dksX3_sign_0 5 rfl rfl)
theorem dX3_sign_6 : decode cX3_sign 6 = .ok (.iload_n 1, 1) := dk_27 (dk_at dksX3_sign_0 6 rfl rfl)
theorem dX3_sign_7 : decode cX3_sign 7 = .ok (.invokevirtual 287, 3) := dk_182 1 31 (dk_at dksX3_sign_0 7 rfl rfl)
theorem dX3_sign_10 : decode cX3_sign 10 = .ok (.ifCond .eq 20, 3) := dk_153 0 20 (dk_at dksX3_sign_0 10 rfl rfl)
theorem dX3_sign_13 : decode cX3_sign 13 = .ok (.aload_n 0, 1) := dk_42 (dk_at dksX3_sign_0 13 rfl rfl)
theorem dX3_sign_14 : decode cX3_sign 14 = .ok (.iload_n 2, 1) := dk_28 (dk_at dksX3_sign_0 14 rfl rfl)
theorem dX3_sign_15 : decode cX3_sign 15 = .ok (.invokevirtual 305, 3) := dk_182 1 49 (dk_at dksX3_sign_0 15 rfl rfl)
theorem dX3_sign_18 : decode cX3_sign 18 = .ok (.ifCond .eq 12, 3) := dk_153 0 12 (dk_at dksX3_sign_0 18 rfl rfl)
theorem dX3_sign_21 : decode cX3_sign 21 = .ok (.aload_n 0, 1) := dk_42 (dk_at dksX3_sign_0 21 rfl rfl)
theorem dX3_sign_22 : decode cX3_sign 22 = .ok (.iload_n 1, 1) := dk_27 (dk_at dksX3_sign_0 22 rfl rfl)
theorem dX3_sign_23 : decode cX3_sign 23 = .ok (.iload_n 2, 1) := dk_28 (dk_at dksX3_sign_0 23 rfl rfl)
theorem dX3_sign_24 : decode cX3_sign 24 = .ok (.invokevirtual 321, 3) := dk_182 1 65 (dk_at dksX3_sign_1 0 rfl rfl)
theorem dX3_sign_27 : decode cX3_sign 27 = .ok (.goto 4, 3) := dk_167 0 4 (dk_at dksX3_sign_1 3 rfl rfl)
theorem dX3_sign_30 : decode cX3_sign 30 = .ok (.iconst 0, 1) := dk_3 (dk_at dksX3_sign_1 6 rfl rfl)
theorem dX3_sign_31 : decode cX3_sign 31 = .ok (.ireturn, 1) := dk_172 (dk_at dksX3_sign_1 7 rfl rfl)
def dkwX3_signAt_1 : List UInt8 := [180, 0, 65, 16, 24, 42, 180, 0, 13, 27, 46, 104, 28, 96, 46, 182, 1, 58, 172]
abbrev dktX3_signAt_1 : List UInt8 := dkwX3_signAt_1 ++ []
def dkwX3_signAt_0 : List UInt8 := [42, 180, 0, 13, 27, 46, 2, 160, 0, 7, 6, 167, 0, 29, 42, 42, 180, 0, 13, 27, 46, 42]
abbrev dktX3_signAt_0 : List UInt8 := dkwX3_signAt_0 ++ dktX3_signAt_1
theorem dksX3_signAt_0 : cX3_signAt.data.toList.drop 0 = dktX3_signAt_0 := by decide +kernel
theorem dksX3_signAt_1 : cX3_signAt.data.toList.drop 22 = dktX3_signAt_1 := dk_seg dksX3_signAt_0 22 rfl rfl
theorem dX3_signAt_0 : decode cX3_signAt 0 = .ok (.aload_n 0, 1) := dk_42 (dk_at dksX3_signAt_0 0 rfl rfl)
theorem dX3_signAt_1 : decode cX3_signAt 1 = .ok (.getfield 13, 3) := dk_180 0 13 (dk_at dksX3_signAt_0 1 rfl rfl)
theorem dX3_signAt_4 : decode cX3_signAt 4 = .ok (.iload_n 1, 1) := dk_27 (dk_at dksX3_signAt_0 4 rfl rfl)
theorem dX3_signAt_5 : decode cX3_signAt 5 = .ok (.iaload, 1) := dk_46 (dk_at dksX3_signAt_0 5 rfl rfl)
theorem dX3_signAt_6 : decode cX3_signAt 6 = .ok (.iconst (-1), 1) := dk_2 (dk_at dksX3_signAt_0 6 rfl rfl)
theorem dX3_signAt_7 : decode cX3_signAt 7 = .ok (.if_icmp .ne 7, 3) := dk_160 0 7 (dk_at dksX3_signAt_0 7 rfl rfl)
theorem dX3_signAt_10 : decode cX3_signAt 10 = .ok (.iconst 3, 1) := dk_6 (dk_at dksX3_signAt_0 10 rfl rfl)
theorem dX3_signAt_11 : decode cX3_signAt 11 = .ok (.goto 29, 3) := dk_167 0 29 (dk_at dksX3_signAt_0 11 rfl rfl)
theorem dX3_signAt_14 : decode cX3_signAt 14 = .ok (.aload_n 0, 1) := dk_42 (dk_at dksX3_signAt_0 14 rfl rfl)
theorem dX3_signAt_15 : decode cX3_signAt 15 = .ok (.aload_n 0, 1) := dk_42 (dk_at dksX3_signAt_0 15 rfl rfl)
theorem dX3_signAt_16 : decode cX3_signAt 16 = .ok (.getfield 13, 3) := dk_180 0 13 (dk_at dksX3_signAt_0 16 rfl rfl)
theorem dX3_signAt_19 : decode cX3_signAt 19 = .ok (.iload_n 1, 1) := dk_27 (dk_at dksX3_signAt_0 19 rfl rfl)
theorem dX3_signAt_20 : decode cX3_signAt 20 = .ok (.iaload, 1) := dk_46 (dk_at dksX3_signAt_0 20 rfl rfl)
theorem dX3_signAt_21 : decode cX3_signAt 21 = .ok (.aload_n 0, 1) := dk_42 (dk_at dksX3_signAt_0 21 rfl rfl)
theorem dX3_signAt_22 : decode cX3_signAt 22 = .ok (.getfield 65, 3) := dk_180 0 65 (dk_at dksX3_signAt_1 0 rfl rfl)
theorem dX3_signAt_25 : decode cX3_signAt 25 = .ok (.bipush 24, 2) := dk_16 24 (dk_at dksX3_signAt_1 3 rfl rfl)
theorem dX3_signAt_27 : decode cX3_signAt 27 = .ok (.aload_n 0, 1) := dk_42 (dk_at dksX3_signAt_1 5 rfl rfl)
theorem dX3_signAt_28 : decode cX3_signAt 28 = .ok (.getfield 13, 3) := dk_180 0 13 (dk_at dksX3_signAt_1 6 rfl rfl)
theorem dX3_signAt_31 : decode cX3_signAt 31 = .ok (.iload_n 1, 1) := dk_27 (dk_at dksX3_signAt_1 9 rfl rfl)
theorem dX3_signAt_32 : decode cX3_signAt 32 = .ok (.iaload, 1) := dk_46 (dk_at dksX3_signAt_1 10 rfl rfl)
theorem dX3_signAt_33 : decode cX3_signAt 33 = .ok (.imul, 1) := dk_104 (dk_at dksX3_signAt_1 11 rfl rfl)
theorem dX3_signAt_34 : decode cX3_signAt 34 = .ok (.iload_n 2, 1) := dk_28 (dk_at dksX3_signAt_1 12 rfl rfl)
theorem dX3_signAt_35 : decode cX3_signAt 35 = .ok (.iadd, 1) := dk_96 (dk_at dksX3_signAt_1 13 rfl rfl)
theorem dX3_signAt_36 : decode cX3_signAt 36 = .ok (.iaload, 1) := dk_46 (dk_at dksX3_signAt_1 14 rfl rfl)
theorem dX3_signAt_37 : decode cX3_signAt 37 = .ok (.invokevirtual 314, 3) := dk_182 1 58 (dk_at dksX3_signAt_1 15 rfl rfl)
theorem dX3_signAt_40 : decode cX3_signAt 40 = .ok (.ireturn, 1) := dk_172 (dk_at dksX3_signAt_1 18 rfl rfl)
def dkwX3_look_2 : List UInt8 := [180, 0, 68, 16, 24, 27, 104, 28, 96, 29, 79, 21, 4, 172]
abbrev dktX3_look_2 : List UInt8 := dkwX3_look_2 ++ []
def dkwX3_look_1 : List UInt8 := [182, 1, 31, 154, 0, 5, 3, 172, 42, 180, 0, 68, 16, 24, 27, 104, 28, 96, 46, 54, 4, 42]
abbrev dktX3_look_1 : List UInt8 := dkwX3_look_1 ++ dktX3_look_2
def dkwX3_look_0 : List UInt8 := [42, 3, 181, 0, 134, 42, 27, 182, 1, 68, 153, 0, 19, 42, 28, 182, 1, 49, 153, 0, 11, 42, 29]
abbrev dktX3_look_0 : List UInt8 := dkwX3_look_0 ++ dktX3_look_1
theorem dksX3_look_0 : cX3_look.data.toList.drop 0 = dktX3_look_0 := by decide +kernel
theorem dksX3_look_1 : cX3_look.data.toList.drop 23 = dktX3_look_1 := dk_seg dksX3_look_0 23 rfl rfl
theorem dksX3_look_2 : cX3_look.data.toList.drop 45 = dktX3_look_2 := dk_seg dksX3_look_1 22 rfl rfl
theorem dX3_look_0 : decode cX3_look 0 = .ok (.aload_n 0, 1) := dk_42 (dk_at dksX3_look_0 0 rfl rfl)
theorem dX3_look_1 : decode cX3_look 1 = .ok (.iconst 0, 1) := dk_3 (dk_at dksX3_look_0 1 rfl rfl)
theorem dX3_look_2 : decode cX3_look 2 = .ok (.putfield 134, 3) := dk_181 0 134 (dk_at dksX3_look_0 2 rfl rfl)
theorem dX3_look_5 : decode cX3_look 5 = .ok (.aload_n 0, 1) := dk_42 (dk_at dksX3_look_0 5 rfl rfl)
theorem dX3_look_6 : decode cX3_look 6 = .ok (.iload_n 1, 1) := dk_27 (dk_at dksX3_look_0 6 rfl rfl)
theorem dX3_look_7 : decode cX3_look 7 = .ok (.invokevirtual 324, 3) := dk_182 1 68 (dk_at dksX3_look_0 7 rfl rfl)
theorem dX3_look_10 : decode cX3_look 10 = .ok (.ifCond .eq 19, 3) := dk_153 0 19 (dk_at dksX3_look_0 10 rfl rfl)
theorem dX3_look_13 : decode cX3_look 13 = .ok (.aload_n 0, 1) := dk_42 (dk_at dksX3_look_0 13 rfl rfl)
theorem dX3_look_14 : decode cX3_look 14 = .ok (.iload_n 2, 1) := dk_28 (dk_at dksX3_look_0 14 rfl rfl)
theorem dX3_look_15 : decode cX3_look 15 = .ok (.invokevirtual 305, 3) := dk_182 1 49 (dk_at dksX3_look_0 15 rfl rfl)
theorem dX3_look_18 : decode cX3_look 18 = .ok (.ifCond .eq 11, 3) := dk_153 0 11 (dk_at dksX3_look_0 18 rfl rfl)
theorem dX3_look_21 : decode cX3_look 21 = .ok (.aload_n 0, 1) := dk_42 (dk_at dksX3_look_0 21 rfl rfl)
theorem dX3_look_22 : decode cX3_look 22 = .ok (.iload_n 3, 1) := dk_29 (dk_at dksX3_look_0 22 rfl rfl)
theorem dX3_look_23 : decode cX3_look 23 = .ok (.invokevirtual 287, 3) := dk_182 1 31 (dk_at dksX3_look_1 0 rfl rfl)
theorem dX3_look_26 : decode cX3_look 26 = .ok (.ifCond .ne 5, 3) := dk_154 0 5 (dk_at dksX3_look_1 3 rfl rfl)
theorem dX3_look_29 : decode cX3_look 29 = .ok (.iconst 0, 1) := dk_3 (dk_at dksX3_look_1 6 rfl rfl)
theorem dX3_look_30 : decode cX3_look 30 = .ok (.ireturn, 1) := dk_172 (dk_at dksX3_look_1 7 rfl rfl)
theorem dX3_look_31 : decode cX3_look 31 = .ok (.aload_n 0, 1) := dk_42 (dk_at dksX3_look_1 8 rfl rfl)
theorem dX3_look_32 : decode cX3_look 32 = .ok (.getfield 68, 3) := dk_180 0 68 (dk_at dksX3_look_1 9 rfl rfl)
theorem dX3_look_35 : decode cX3_look 35 = .ok (.bipush 24, 2) := dk_16 24 (dk_at dksX3_look_1 12 rfl rfl)
theorem dX3_look_37 : decode cX3_look 37 = .ok (.iload_n 1, 1) := dk_27 (dk_at dksX3_look_1 14 rfl rfl)
theorem dX3_look_38 : decode cX3_look 38 = .ok (.imul, 1) := dk_104 (dk_at dksX3_look_1 15 rfl rfl)
theorem dX3_look_39 : decode cX3_look 39 = .ok (.iload_n 2, 1) := dk_28 (dk_at dksX3_look_1 16 rfl rfl)
theorem dX3_look_40 : decode cX3_look 40 = .ok (.iadd, 1) := dk_96 (dk_at dksX3_look_1 17 rfl rfl)
theorem dX3_look_41 : decode cX3_look 41 = .ok (.iaload, 1) := dk_46 (dk_at dksX3_look_1 18 rfl rfl)
theorem dX3_look_42 : decode cX3_look 42 = .ok (.istore 4, 2) := dk_54 4 (dk_at dksX3_look_1 19 rfl rfl)
theorem dX3_look_44 : decode cX3_look 44 = .ok (.aload_n 0, 1) := dk_42 (dk_at dksX3_look_1 21 rfl rfl)
theorem dX3_look_45 : decode cX3_look 45 = .ok (.getfield 68, 3) := dk_180 0 68 (dk_at dksX3_look_2 0 rfl rfl)
theorem dX3_look_48 : decode cX3_look 48 = .ok (.bipush 24, 2) := dk_16 24 (dk_at dksX3_look_2 3 rfl rfl)
theorem dX3_look_50 : decode cX3_look 50 = .ok (.iload_n 1, 1) := dk_27 (dk_at dksX3_look_2 5 rfl rfl)
theorem dX3_look_51 : decode cX3_look 51 = .ok (.imul, 1) := dk_104 (dk_at dksX3_look_2 6 rfl rfl)
theorem dX3_look_52 : decode cX3_look 52 = .ok (.iload_n 2, 1) := dk_28 (dk_at dksX3_look_2 7 rfl rfl)
theorem dX3_look_53 : decode cX3_look 53 = .ok (.iadd, 1) := dk_96 (dk_at dksX3_look_2 8 rfl rfl)
theorem dX3_look_54 : decode cX3_look 54 = .ok (.iload_n 3, 1) := dk_29 (dk_at dksX3_look_2 9 rfl rfl)
theorem dX3_look_55 : decode cX3_look 55 = .ok (.iastore, 1) := dk_79 (dk_at dksX3_look_2 10 rfl rfl)
theorem dX3_look_56 : decode cX3_look 56 = .ok (.iload 4, 2) := dk_21 4 (dk_at dksX3_look_2 11 rfl rfl)
theorem dX3_look_58 : decode cX3_look 58 = .ok (.ireturn, 1) := dk_172 (dk_at dksX3_look_2 13 rfl rfl)
def dkwX3_isFinder_0 : List UInt8 := [42, 27, 155, 0, 15, 27, 42, 180, 0, 254, 162, 0, 7, 4, 167, 0, 4, 3, 4, 182, 0, 241, 172]
abbrev dktX3_isFinder_0 : List UInt8 := dkwX3_isFinder_0 ++ []
theorem dksX3_isFinder_0 : cX3_isFinder.data.toList.drop 0 = dktX3_isFinder_0 := by decide +kernel
theorem dX3_isFinder_0 : decode cX3_isFinder 0 = .ok (.aload_n 0, 1) := dk_42 (dk_at dksX3_isFinder_0 0 rfl rfl)
theorem dX3_isFinder_1 : decode cX3_isFinder 1 = .ok (.iload_n 1, 1) := dk_27 (dk_at dksX3_isFinder_0 1 rfl rfl)
theorem dX3_isFinder_2 : decode cX3_isFinder 2 = .ok (.ifCond .lt 15, 3) := dk_155 0 15 (dk_at dksX3_isFinder_0 2 rfl rfl)
theorem dX3_isFinder_5 : decode cX3_isFinder 5 = .ok (.iload_n 1, 1) := dk_27 (dk_at dksX3_isFinder_0 5 rfl rfl)
theorem dX3_isFinder_6 : decode cX3_isFinder 6 = .ok (.aload_n 0, 1) := dk_42 (dk_at dksX3_isFinder_0 6 rfl rfl)
theorem dX3_isFinder_7 : decode cX3_isFinder 7 = .ok (.getfield 254, 3) := dk_180 0 254 (dk_at dksX3_isFinder_0 7 rfl rfl)
theorem dX3_isFinder_10 : decode cX3_isFinder 10 = .ok (.if_icmp .ge 7, 3) := dk_162 0 7 (dk_at dksX3_isFinder_0 10 rfl rfl)
theorem dX3_isFinder_13 : decode cX3_isFinder 13 = .ok (.iconst 1, 1) := dk_4 (dk_at dksX3_isFinder_0 13 rfl rfl)
theorem dX3_isFinder_14 : decode cX3_isFinder 14 = .ok (.goto 4, 3) := dk_167 0 4 (dk_at dksX3_isFinder_0 14 rfl rfl)
theorem dX3_isFinder_17 : decode cX3_isFinder 17 = .ok (.iconst 0, 1) := dk_3 (dk_at dksX3_isFinder_0 17 rfl rfl)
theorem dX3_isFinder_18 : decode cX3_isFinder 18 = .ok (.iconst 1, 1) := dk_4 (dk_at dksX3_isFinder_0 18 rfl rfl)
theorem dX3_isFinder_19 : decode cX3_isFinder 19 = .ok (.invokevirtual 241, 3) := dk_182 0 241 (dk_at dksX3_isFinder_0 19 rfl rfl)
theorem dX3_isFinder_22 : decode cX3_isFinder 22 = .ok (.ireturn, 1) := dk_172 (dk_at dksX3_isFinder_0 22 rfl rfl)
def dkwX3_theft_4 : List UInt8 := [167, 255, 217, 132, 3, 1, 167, 255, 181, 2, 172]
abbrev dktX3_theft_4 : List UInt8 := dkwX3_theft_4 ++ []
def dkwX3_theft_3 : List UInt8 := [21, 4, 104, 29, 96, 46, 27, 160, 0, 14, 28, 154, 0, 8, 21, 4, 167, 0, 4, 29, 172, 132, 4, 1]
abbrev dktX3_theft_3 : List UInt8 := dkwX3_theft_3 ++ dktX3_theft_4
def dkwX3_theft_2 : List UInt8 := [153, 0, 6, 167, 0, 48, 3, 54, 4, 21, 4, 42, 180, 0, 254, 162, 0, 36, 42, 180, 0, 68, 16, 24]
abbrev dktX3_theft_2 : List UInt8 := dkwX3_theft_2 ++ dktX3_theft_3
def dkwX3_theft_1 : List UInt8 := [62, 29, 16, 24, 162, 0, 75, 42, 180, 0, 7, 27, 46, 158, 0, 66, 42, 27, 29, 182, 1, 65]
abbrev dktX3_theft_1 : List UInt8 := dkwX3_theft_1 ++ dktX3_theft_2
def dkwX3_theft_0 : List UInt8 := [42, 3, 181, 0, 134, 42, 27, 182, 1, 31, 153, 0, 11, 42, 28, 182, 1, 34, 154, 0, 5, 3, 172, 3]
abbrev dktX3_theft_0 : List UInt8 := dkwX3_theft_0 ++ dktX3_theft_1
theorem dksX3_theft_0 : cX3_theft.data.toList.drop 0 = dktX3_theft_0 := by decide +kernel
theorem dksX3_theft_1 : cX3_theft.data.toList.drop 24 = dktX3_theft_1 := dk_seg dksX3_theft_0 24 rfl rfl
theorem dksX3_theft_2 : cX3_theft.data.toList.drop 46 = dktX3_theft_2 := dk_seg dksX3_theft_1 22 rfl rfl
theorem dksX3_theft_3 : cX3_theft.data.toList.drop 70 = dktX3_theft_3 := dk_seg dksX3_theft_2 24 rfl rfl
theorem dksX3_theft_4 : cX3_theft.data.toList.drop 94 = dktX3_theft_4 := dk_seg dksX3_theft_3 24 rfl rfl
theorem dX3_theft_0 : decode cX3_theft 0 = .ok (.aload_n 0, 1) := dk_42 (dk_at dksX3_theft_0 0 rfl rfl)
theorem dX3_theft_1 : decode cX3_theft 1 = .ok (.iconst 0, 1) := dk_3 (dk_at dksX3_theft_0 1 rfl rfl)
theorem dX3_theft_2 : decode cX3_theft 2 = .ok (.putfield 134, 3) := dk_181 0 134 (dk_at dksX3_theft_0 2 rfl rfl)
theorem dX3_theft_5 : decode cX3_theft 5 = .ok (.aload_n 0, 1) := dk_42 (dk_at dksX3_theft_0 5 rfl rfl)
theorem dX3_theft_6 : decode cX3_theft 6 = .ok (.iload_n 1, 1) := dk_27 (dk_at dksX3_theft_0 6 rfl rfl)
theorem dX3_theft_7 : decode cX3_theft 7 = .ok (.invokevirtual 287, 3) := dk_182 1 31 (dk_at dksX3_theft_0 7 rfl rfl)
theorem dX3_theft_10 : decode cX3_theft 10 = .ok (.ifCond .eq 11, 3) := dk_153 0 11 (dk_at dksX3_theft_0 10 rfl rfl)
theorem dX3_theft_13 : decode cX3_theft 13 = .ok (.aload_n 0, 1) := dk_42 (dk_at dksX3_theft_0 13 rfl rfl)
theorem dX3_theft_14 : decode cX3_theft 14 = .ok (.iload_n 2, 1) := dk_28 (dk_at dksX3_theft_0 14 rfl rfl)
theorem dX3_theft_15 : decode cX3_theft 15 = .ok (.invokevirtual 290, 3) := dk_182 1 34 (dk_at dksX3_theft_0 15 rfl rfl)
theorem dX3_theft_18 : decode cX3_theft 18 = .ok (.ifCond .ne 5, 3) := dk_154 0 5 (dk_at dksX3_theft_0 18 rfl rfl)
theorem dX3_theft_21 : decode cX3_theft 21 = .ok (.iconst 0, 1) := dk_3 (dk_at dksX3_theft_0 21 rfl rfl)
theorem dX3_theft_22 : decode cX3_theft 22 = .ok (.ireturn, 1) := dk_172 (dk_at dksX3_theft_0 22 rfl rfl)
theorem dX3_theft_23 : decode cX3_theft 23 = .ok (.iconst 0, 1) := dk_3 (dk_at dksX3_theft_0 23 rfl rfl)
theorem dX3_theft_24 : decode cX3_theft 24 = .ok (.istore_n 3, 1) := dk_62 (dk_at dksX3_theft_1 0 rfl rfl)
theorem dX3_theft_25 : decode cX3_theft 25 = .ok (.iload_n 3, 1) := dk_29 (dk_at dksX3_theft_1 1 rfl rfl)
theorem dX3_theft_26 : decode cX3_theft 26 = .ok (.bipush 24, 2) := dk_16 24 (dk_at dksX3_theft_1 2 rfl rfl)
theorem dX3_theft_28 : decode cX3_theft 28 = .ok (.if_icmp .ge 75, 3) := dk_162 0 75 (dk_at dksX3_theft_1 4 rfl rfl)
theorem dX3_theft_31 : decode cX3_theft 31 = .ok (.aload_n 0, 1) := dk_42 (dk_at dksX3_theft_1 7 rfl rfl)
theorem dX3_theft_32 : decode cX3_theft 32 = .ok (.getfield 7, 3) := dk_180 0 7 (dk_at dksX3_theft_1 8 rfl rfl)
theorem dX3_theft_35 : decode cX3_theft 35 = .ok (.iload_n 1, 1) := dk_27 (dk_at dksX3_theft_1 11 rfl rfl)
theorem dX3_theft_36 : decode cX3_theft 36 = .ok (.iaload, 1) := dk_46 (dk_at dksX3_theft_1 12 rfl rfl)
theorem dX3_theft_37 : decode cX3_theft 37 = .ok (.ifCond .le 66, 3) := dk_158 0 66 (dk_at dksX3_theft_1 13 rfl rfl)
theorem dX3_theft_40 : decode cX3_theft 40 = .ok (.aload_n 0, 1) := dk_42 (dk_at dksX3_theft_1 16 rfl rfl)
theorem dX3_theft_41 : decode cX3_theft 41 = .ok (.iload_n 1, 1) := dk_27 (dk_at dksX3_theft_1 17 rfl rfl)
theorem dX3_theft_42 : decode cX3_theft 42 = .ok (.iload_n 3, 1) := dk_29 (dk_at dksX3_theft_1 18 rfl rfl)
theorem dX3_theft_43 : decode cX3_theft 43 = .ok (.invokevirtual 321, 3) := dk_182 1 65 (dk_at dksX3_theft_1 19 rfl rfl)
theorem dX3_theft_46 : decode cX3_theft 46 = .ok (.ifCond .eq 6, 3) := dk_153 0 6 (dk_at dksX3_theft_2 0 rfl rfl)
theorem dX3_theft_49 : decode cX3_theft 49 = .ok (.goto 48, 3) := dk_167 0 48 (dk_at dksX3_theft_2 3 rfl rfl)
theorem dX3_theft_52 : decode cX3_theft 52 = .ok (.iconst 0, 1) := dk_3 (dk_at dksX3_theft_2 6 rfl rfl)
theorem dX3_theft_53 : decode cX3_theft 53 = .ok (.istore 4, 2) := dk_54 4 (dk_at dksX3_theft_2 7 rfl rfl)
theorem dX3_theft_55 : decode cX3_theft 55 = .ok (.iload 4, 2) := dk_21 4 (dk_at dksX3_theft_2 9 rfl rfl)
theorem dX3_theft_57 : decode cX3_theft 57 = .ok (.aload_n 0, 1) := dk_42 (dk_at dksX3_theft_2 11 rfl rfl)
theorem dX3_theft_58 : decode cX3_theft 58 = .ok (.getfield 254, 3) := dk_180 0 254 (dk_at dksX3_theft_2 12 rfl rfl)
theorem dX3_theft_61 : decode cX3_theft 61 = .ok (.if_icmp .ge 36, 3) := dk_162 0 36 (dk_at dksX3_theft_2 15 rfl rfl)
theorem dX3_theft_64 : decode cX3_theft 64 = .ok (.aload_n 0, 1) := dk_42 (dk_at dksX3_theft_2 18 rfl rfl)
theorem dX3_theft_65 : decode cX3_theft 65 = .ok (.getfield 68, 3) := dk_180 0 68 (dk_at dksX3_theft_2 19 rfl rfl)
theorem dX3_theft_68 : decode cX3_theft 68 = .ok (.bipush 24, 2) := dk_16 24 (dk_at dksX3_theft_2 22 rfl rfl)
theorem dX3_theft_70 : decode cX3_theft 70 = .ok (.iload 4, 2) := dk_21 4 (dk_at dksX3_theft_3 0 rfl rfl)
theorem dX3_theft_72 : decode cX3_theft 72 = .ok (.imul, 1) := dk_104 (dk_at dksX3_theft_3 2 rfl rfl)
theorem dX3_theft_73 : decode cX3_theft 73 = .ok (.iload_n 3, 1) := dk_29 (dk_at dksX3_theft_3 3 rfl rfl)
theorem dX3_theft_74 : decode cX3_theft 74 = .ok (.iadd, 1) := dk_96 (dk_at dksX3_theft_3 4 rfl rfl)
theorem dX3_theft_75 : decode cX3_theft 75 = .ok (.iaload, 1) := dk_46 (dk_at dksX3_theft_3 5 rfl rfl)
theorem dX3_theft_76 : decode cX3_theft 76 = .ok (.iload_n 1, 1) := dk_27 (dk_at dksX3_theft_3 6 rfl rfl)
theorem dX3_theft_77 : decode cX3_theft 77 = .ok (.if_icmp .ne 14, 3) := dk_160 0 14 (dk_at dksX3_theft_3 7 rfl rfl)
theorem dX3_theft_80 : decode cX3_theft 80 = .ok (.iload_n 2, 1) := dk_28 (dk_at dksX3_theft_3 10 rfl rfl)
theorem dX3_theft_81 : decode cX3_theft 81 = .ok (.ifCond .ne 8, 3) := dk_154 0 8 (dk_at dksX3_theft_3 11 rfl rfl)
theorem dX3_theft_84 : decode cX3_theft 84 = .ok (.iload 4, 2) := dk_21 4 (dk_at dksX3_theft_3 14 rfl rfl)
theorem dX3_theft_86 : decode cX3_theft 86 = .ok (.goto 4, 3) := dk_167 0 4 (dk_at dksX3_theft_3 16 rfl rfl)
theorem dX3_theft_89 : decode cX3_theft 89 = .ok (.iload_n 3, 1) := dk_29 (dk_at dksX3_theft_3 19 rfl rfl)
theorem dX3_theft_90 : decode cX3_theft 90 = .ok (.ireturn, 1) := dk_172 (dk_at dksX3_theft_3 20 rfl rfl)
theorem dX3_theft_91 : decode cX3_theft 91 = .ok (.iinc 4 1, 3) := dk_132 4 1 (dk_at dksX3_theft_3 21 rfl rfl)
theorem dX3_theft_94 : decode cX3_theft 94 = .ok (.goto (-39), 3) := dk_167 255 217 (dk_at dksX3_theft_4 0 rfl rfl)
theorem dX3_theft_97 : decode cX3_theft 97 = .ok (.iinc 3 1, 3) := dk_132 3 1 (dk_at dksX3_theft_4 3 rfl rfl)
theorem dX3_theft_100 : decode cX3_theft 100 = .ok (.goto (-75), 3) := dk_167 255 181 (dk_at dksX3_theft_4 6 rfl rfl)
theorem dX3_theft_103 : decode cX3_theft 103 = .ok (.iconst (-1), 1) := dk_2 (dk_at dksX3_theft_4 9 rfl rfl)
theorem dX3_theft_104 : decode cX3_theft 104 = .ok (.ireturn, 1) := dk_172 (dk_at dksX3_theft_4 10 rfl rfl)
def dkwX3_see_4 : List UInt8 := [181, 1, 11, 42, 180, 0, 74, 27, 29, 79, 42, 180, 1, 11, 184, 1, 52, 172]
abbrev dktX3_see_4 : List UInt8 := dkwX3_see_4 ++ []
def dkwX3_see_3 : List UInt8 := [21, 4, 154, 0, 8, 42, 3, 181, 1, 11, 42, 28, 181, 0, 71, 42, 89, 180, 1, 11, 4, 27, 120, 128]
abbrev dktX3_see_3 : List UInt8 := dkwX3_see_3 ++ dktX3_see_4
def dkwX3_see_2 : List UInt8 := [21, 4, 153, 0, 21, 42, 180, 1, 11, 27, 122, 4, 126, 4, 160, 0, 9, 42, 5, 182, 1, 61, 172]
abbrev dktX3_see_2 : List UInt8 := dkwX3_see_2 ++ dktX3_see_3
def dkwX3_see_1 : List UInt8 := [42, 180, 0, 71, 160, 0, 7, 4, 167, 0, 4, 3, 54, 4, 29, 3, 6, 184, 1, 27, 153, 0, 20]
abbrev dktX3_see_1 : List UInt8 := dkwX3_see_1 ++ dktX3_see_2
def dkwX3_see_0 : List UInt8 := [42, 3, 181, 0, 134, 42, 27, 182, 1, 31, 153, 0, 11, 42, 28, 182, 1, 49, 154, 0, 5, 3, 172, 28]
abbrev dktX3_see_0 : List UInt8 := dkwX3_see_0 ++ dktX3_see_1
theorem dksX3_see_0 : cX3_see.data.toList.drop 0 = dktX3_see_0 := by decide +kernel
theorem dksX3_see_1 : cX3_see.data.toList.drop 24 = dktX3_see_1 := dk_seg dksX3_see_0 24 rfl rfl
theorem dksX3_see_2 : cX3_see.data.toList.drop 47 = dktX3_see_2 := dk_seg dksX3_see_1 23 rfl rfl
theorem dksX3_see_3 : cX3_see.data.toList.drop 70 = dktX3_see_3 := dk_seg dksX3_see_2 23 rfl rfl
theorem dksX3_see_4 : cX3_see.data.toList.drop 94 = dktX3_see_4 := dk_seg dksX3_see_3 24 rfl rfl
theorem dX3_see_0 : decode cX3_see 0 = .ok (.aload_n 0, 1) := dk_42 (dk_at dksX3_see_0 0 rfl rfl)
theorem dX3_see_1 : decode cX3_see 1 = .ok (.iconst 0, 1) := dk_3 (dk_at dksX3_see_0 1 rfl rfl)
theorem dX3_see_2 : decode cX3_see 2 = .ok (.putfield 134, 3) := dk_181 0 134 (dk_at dksX3_see_0 2 rfl rfl)
theorem dX3_see_5 : decode cX3_see 5 = .ok (.aload_n 0, 1) := dk_42 (dk_at dksX3_see_0 5 rfl rfl)
theorem dX3_see_6 : decode cX3_see 6 = .ok (.iload_n 1, 1) := dk_27 (dk_at dksX3_see_0 6 rfl rfl)
theorem dX3_see_7 : decode cX3_see 7 = .ok (.invokevirtual 287, 3) := dk_182 1 31 (dk_at dksX3_see_0 7 rfl rfl)
theorem dX3_see_10 : decode cX3_see 10 = .ok (.ifCond .eq 11, 3) := dk_153 0 11 (dk_at dksX3_see_0 10 rfl rfl)
theorem dX3_see_13 : decode cX3_see 13 = .ok (.aload_n 0, 1) := dk_42 (dk_at dksX3_see_0 13 rfl rfl)
theorem dX3_see_14 : decode cX3_see 14 = .ok (.iload_n 2, 1) := dk_28 (dk_at dksX3_see_0 14 rfl rfl)
theorem dX3_see_15 : decode cX3_see 15 = .ok (.invokevirtual 305, 3) := dk_182 1 49 (dk_at dksX3_see_0 15 rfl rfl)
theorem dX3_see_18 : decode cX3_see 18 = .ok (.ifCond .ne 5, 3) := dk_154 0 5 (dk_at dksX3_see_0 18 rfl rfl)
theorem dX3_see_21 : decode cX3_see 21 = .ok (.iconst 0, 1) := dk_3 (dk_at dksX3_see_0 21 rfl rfl)
theorem dX3_see_22 : decode cX3_see 22 = .ok (.ireturn, 1) := dk_172 (dk_at dksX3_see_0 22 rfl rfl)
theorem dX3_see_23 : decode cX3_see 23 = .ok (.iload_n 2, 1) := dk_28 (dk_at dksX3_see_0 23 rfl rfl)
theorem dX3_see_24 : decode cX3_see 24 = .ok (.aload_n 0, 1) := dk_42 (dk_at dksX3_see_1 0 rfl rfl)
theorem dX3_see_25 : decode cX3_see 25 = .ok (.getfield 71, 3) := dk_180 0 71 (dk_at dksX3_see_1 1 rfl rfl)
theorem dX3_see_28 : decode cX3_see 28 = .ok (.if_icmp .ne 7, 3) := dk_160 0 7 (dk_at dksX3_see_1 4 rfl rfl)
theorem dX3_see_31 : decode cX3_see 31 = .ok (.iconst 1, 1) := dk_4 (dk_at dksX3_see_1 7 rfl rfl)
theorem dX3_see_32 : decode cX3_see 32 = .ok (.goto 4, 3) := dk_167 0 4 (dk_at dksX3_see_1 8 rfl rfl)
theorem dX3_see_35 : decode cX3_see 35 = .ok (.iconst 0, 1) := dk_3 (dk_at dksX3_see_1 11 rfl rfl)
theorem dX3_see_36 : decode cX3_see 36 = .ok (.istore 4, 2) := dk_54 4 (dk_at dksX3_see_1 12 rfl rfl)
theorem dX3_see_38 : decode cX3_see 38 = .ok (.iload_n 3, 1) := dk_29 (dk_at dksX3_see_1 14 rfl rfl)
theorem dX3_see_39 : decode cX3_see 39 = .ok (.iconst 0, 1) := dk_3 (dk_at dksX3_see_1 15 rfl rfl)
theorem dX3_see_40 : decode cX3_see 40 = .ok (.iconst 3, 1) := dk_6 (dk_at dksX3_see_1 16 rfl rfl)
theorem dX3_see_41 : decode cX3_see 41 = .ok (.invokestatic 283, 3) := dk_184 1 27 (dk_at dksX3_see_1 17 rfl rfl)
theorem dX3_see_44 : decode cX3_see 44 = .ok (.ifCond .eq 20, 3) := dk_153 0 20 (dk_at dksX3_see_1 20 rfl rfl)
theorem dX3_see_47 : decode cX3_see 47 = .ok (.iload 4, 2) := dk_21 4 (dk_at dksX3_see_2 0 rfl rfl)
theorem dX3_see_49 : decode cX3_see 49 = .ok (.ifCond .eq 21, 3) := dk_153 0 21 (dk_at dksX3_see_2 2 rfl rfl)
theorem dX3_see_52 : decode cX3_see 52 = .ok (.aload_n 0, 1) := dk_42 (dk_at dksX3_see_2 5 rfl rfl)
theorem dX3_see_53 : decode cX3_see 53 = .ok (.getfield 267, 3) := dk_180 1 11 (dk_at dksX3_see_2 6 rfl rfl)
theorem dX3_see_56 : decode cX3_see 56 = .ok (.iload_n 1, 1) := dk_27 (dk_at dksX3_see_2 9 rfl rfl)
theorem dX3_see_57 : decode cX3_see 57 = .ok (.ishr, 1) := dk_122 (dk_at dksX3_see_2 10 rfl rfl)
theorem dX3_see_58 : decode cX3_see 58 = .ok (.iconst 1, 1) := dk_4 (dk_at dksX3_see_2 11 rfl rfl)
theorem dX3_see_59 : decode cX3_see 59 = .ok (.iand, 1) := dk_126 (dk_at dksX3_see_2 12 rfl rfl)
theorem dX3_see_60 : decode cX3_see 60 = .ok (.iconst 1, 1) := dk_4 (dk_at dksX3_see_2 13 rfl rfl)
theorem dX3_see_61 : decode cX3_see 61 = .ok (.if_icmp .ne 9, 3) := dk_160 0 9 (dk_at dksX3_see_2 14 rfl rfl)
theorem dX3_see_64 : decode cX3_see 64 = .ok (.aload_n 0, 1) := dk_42 (dk_at dksX3_see_2 17 rfl rfl)
theorem dX3_see_65 : decode cX3_see 65 = .ok (.iconst 2, 1) := dk_5 (dk_at dksX3_see_2 18 rfl rfl)
theorem dX3_see_66 : decode cX3_see 66 = .ok (.invokevirtual 317, 3) := dk_182 1 61 (dk_at dksX3_see_2 19 rfl rfl)
theorem dX3_see_69 : decode cX3_see 69 = .ok (.ireturn, 1) := dk_172 (dk_at dksX3_see_2 22 rfl rfl)
theorem dX3_see_70 : decode cX3_see 70 = .ok (.iload 4, 2) := dk_21 4 (dk_at dksX3_see_3 0 rfl rfl)
theorem dX3_see_72 : decode cX3_see 72 = .ok (.ifCond .ne 8, 3) := dk_154 0 8 (dk_at dksX3_see_3 2 rfl rfl)
theorem dX3_see_75 : decode cX3_see 75 = .ok (.aload_n 0, 1) := dk_42 (dk_at dksX3_see_3 5 rfl rfl)
theorem dX3_see_76 : decode cX3_see 76 = .ok (.iconst 0, 1) := dk_3 (dk_at dksX3_see_3 6 rfl rfl)
theorem dX3_see_77 : decode cX3_see 77 = .ok (.putfield 267, 3) := dk_181 1 11 (dk_at dksX3_see_3 7 rfl rfl)
theorem dX3_see_80 : decode cX3_see 80 = .ok (.aload_n 0, 1) := dk_42 (dk_at dksX3_see_3 10 rfl rfl)
theorem dX3_see_81 : decode cX3_see 81 = .ok (.iload_n 2, 1) := dk_28 (dk_at dksX3_see_3 11 rfl rfl)
theorem dX3_see_82 : decode cX3_see 82 = .ok (.putfield 71, 3) := dk_181 0 71 (dk_at dksX3_see_3 12 rfl rfl)
theorem dX3_see_85 : decode cX3_see 85 = .ok (.aload_n 0, 1) := dk_42 (dk_at dksX3_see_3 15 rfl rfl)
theorem dX3_see_86 : decode cX3_see 86 = .ok (.dup, 1) := dk_89 (dk_at dksX3_see_3 16 rfl rfl)
theorem dX3_see_87 : decode cX3_see 87 = .ok (.getfield 267, 3) := dk_180 1 11 (dk_at dksX3_see_3 17 rfl rfl)
theorem dX3_see_90 : decode cX3_see 90 = .ok (.iconst 1, 1) := dk_4 (dk_at dksX3_see_3 20 rfl rfl)
theorem dX3_see_91 : decode cX3_see 91 = .ok (.iload_n 1, 1) := dk_27 (dk_at dksX3_see_3 21 rfl rfl)
theorem dX3_see_92 : decode cX3_see 92 = .ok (.ishl, 1) := dk_120 (dk_at dksX3_see_3 22 rfl rfl)
theorem dX3_see_93 : decode cX3_see 93 = .ok (.ior, 1) := dk_128 (dk_at dksX3_see_3 23 rfl rfl)
theorem dX3_see_94 : decode cX3_see 94 = .ok (.putfield 267, 3) := dk_181 1 11 (dk_at dksX3_see_4 0 rfl rfl)
theorem dX3_see_97 : decode cX3_see 97 = .ok (.aload_n 0, 1) := dk_42 (dk_at dksX3_see_4 3 rfl rfl)
theorem dX3_see_98 : decode cX3_see 98 = .ok (.getfield 74, 3) := dk_180 0 74 (dk_at dksX3_see_4 4 rfl rfl)
theorem dX3_see_101 : decode cX3_see 101 = .ok (.iload_n 1, 1) := dk_27 (dk_at dksX3_see_4 7 rfl rfl)
theorem dX3_see_102 : decode cX3_see 102 = .ok (.iload_n 3, 1) := dk_29 (dk_at dksX3_see_4 8 rfl rfl)
theorem dX3_see_103 : decode cX3_see 103 = .ok (.iastore, 1) := dk_79 (dk_at dksX3_see_4 9 rfl rfl)
theorem dX3_see_104 : decode cX3_see 104 = .ok (.aload_n 0, 1) := dk_42 (dk_at dksX3_see_4 10 rfl rfl)
theorem dX3_see_105 : decode cX3_see 105 = .ok (.getfield 267, 3) := dk_180 1 11 (dk_at dksX3_see_4 11 rfl rfl)
theorem dX3_see_108 : decode cX3_see 108 = .ok (.invokestatic 308, 3) := dk_184 1 52 (dk_at dksX3_see_4 14 rfl rfl)
theorem dX3_see_111 : decode cX3_see 111 = .ok (.ireturn, 1) := dk_172 (dk_at dksX3_see_4 17 rfl rfl)
def dkwX3_forget_1 : List UInt8 := [172]
abbrev dktX3_forget_1 : List UInt8 := dkwX3_forget_1 ++ []
def dkwX3_forget_0 : List UInt8 := [42, 3, 181, 0, 134, 42, 180, 1, 11, 184, 1, 52, 60, 42, 3, 181, 1, 11, 42, 2, 181, 0, 71, 27]
abbrev dktX3_forget_0 : List UInt8 := dkwX3_forget_0 ++ dktX3_forget_1
theorem dksX3_forget_0 : cX3_forget.data.toList.drop 0 = dktX3_forget_0 := by decide +kernel
theorem dksX3_forget_1 : cX3_forget.data.toList.drop 24 = dktX3_forget_1 := dk_seg dksX3_forget_0 24 rfl rfl
theorem dX3_forget_0 : decode cX3_forget 0 = .ok (.aload_n 0, 1) := dk_42 (dk_at dksX3_forget_0 0 rfl rfl)
theorem dX3_forget_1 : decode cX3_forget 1 = .ok (.iconst 0, 1) := dk_3 (dk_at dksX3_forget_0 1 rfl rfl)
theorem dX3_forget_2 : decode cX3_forget 2 = .ok (.putfield 134, 3) := dk_181 0 134 (dk_at dksX3_forget_0 2 rfl rfl)
theorem dX3_forget_5 : decode cX3_forget 5 = .ok (.aload_n 0, 1) := dk_42 (dk_at dksX3_forget_0 5 rfl rfl)
theorem dX3_forget_6 : decode cX3_forget 6 = .ok (.getfield 267, 3) := dk_180 1 11 (dk_at dksX3_forget_0 6 rfl rfl)
theorem dX3_forget_9 : decode cX3_forget 9 = .ok (.invokestatic 308, 3) := dk_184 1 52 (dk_at dksX3_forget_0 9 rfl rfl)
theorem dX3_forget_12 : decode cX3_forget 12 = .ok (.istore_n 1, 1) := dk_60 (dk_at dksX3_forget_0 12 rfl rfl)
theorem dX3_forget_13 : decode cX3_forget 13 = .ok (.aload_n 0, 1) := dk_42 (dk_at dksX3_forget_0 13 rfl rfl)
theorem dX3_forget_14 : decode cX3_forget 14 = .ok (.iconst 0, 1) := dk_3 (dk_at dksX3_forget_0 14 rfl rfl)
theorem dX3_forget_15 : decode cX3_forget 15 = .ok (.putfield 267, 3) := dk_181 1 11 (dk_at dksX3_forget_0 15 rfl rfl)
theorem dX3_forget_18 : decode cX3_forget 18 = .ok (.aload_n 0, 1) := dk_42 (dk_at dksX3_forget_0 18 rfl rfl)
theorem dX3_forget_19 : decode cX3_forget 19 = .ok (.iconst (-1), 1) := dk_2 (dk_at dksX3_forget_0 19 rfl rfl)
theorem dX3_forget_20 : decode cX3_forget 20 = .ok (.putfield 71, 3) := dk_181 0 71 (dk_at dksX3_forget_0 20 rfl rfl)
theorem dX3_forget_23 : decode cX3_forget 23 = .ok (.iload_n 1, 1) := dk_27 (dk_at dksX3_forget_0 23 rfl rfl)
theorem dX3_forget_24 : decode cX3_forget 24 = .ok (.ireturn, 1) := dk_172 (dk_at dksX3_forget_1 0 rfl rfl)
def dkwX3_cases_1 : List UInt8 := [42, 180, 1, 11, 42, 180, 0, 74, 182, 1, 92, 42, 180, 1, 75, 172]
abbrev dktX3_cases_1 : List UInt8 := dkwX3_cases_1 ++ []
def dkwX3_cases_0 : List UInt8 := [42, 3, 181, 0, 134, 42, 42, 182, 1, 85, 182, 1, 89, 153, 0, 6, 16, 254, 172, 42, 42, 182, 1, 85]
abbrev dktX3_cases_0 : List UInt8 := dkwX3_cases_0 ++ dktX3_cases_1
theorem dksX3_cases_0 : cX3_cases.data.toList.drop 0 = dktX3_cases_0 := by decide +kernel
theorem dksX3_cases_1 : cX3_cases.data.toList.drop 24 = dktX3_cases_1 := dk_seg dksX3_cases_0 24 rfl rfl
theorem dX3_cases_0 : decode cX3_cases 0 = .ok (.aload_n 0, 1) := dk_42 (dk_at dksX3_cases_0 0 rfl rfl)
theorem dX3_cases_1 : decode cX3_cases 1 = .ok (.iconst 0, 1) := dk_3 (dk_at dksX3_cases_0 1 rfl rfl)
theorem dX3_cases_2 : decode cX3_cases 2 = .ok (.putfield 134, 3) := dk_181 0 134 (dk_at dksX3_cases_0 2 rfl rfl)
theorem dX3_cases_5 : decode cX3_cases 5 = .ok (.aload_n 0, 1) := dk_42 (dk_at dksX3_cases_0 5 rfl rfl)
theorem dX3_cases_6 : decode cX3_cases 6 = .ok (.aload_n 0, 1) := dk_42 (dk_at dksX3_cases_0 6 rfl rfl)
theorem dX3_cases_7 : decode cX3_cases 7 = .ok (.invokevirtual 341, 3) := dk_182 1 85 (dk_at dksX3_cases_0 7 rfl rfl)
theorem dX3_cases_10 : decode cX3_cases 10 = .ok (.invokevirtual 345, 3) := dk_182 1 89 (dk_at dksX3_cases_0 10 rfl rfl)
theorem dX3_cases_13 : decode cX3_cases 13 = .ok (.ifCond .eq 6, 3) := dk_153 0 6 (dk_at dksX3_cases_0 13 rfl rfl)
theorem dX3_cases_16 : decode cX3_cases 16 = .ok (.bipush (-2), 2) := dk_16 254 (dk_at dksX3_cases_0 16 rfl rfl)
theorem dX3_cases_18 : decode cX3_cases 18 = .ok (.ireturn, 1) := dk_172 (dk_at dksX3_cases_0 18 rfl rfl)
theorem dX3_cases_19 : decode cX3_cases 19 = .ok (.aload_n 0, 1) := dk_42 (dk_at dksX3_cases_0 19 rfl rfl)
theorem dX3_cases_20 : decode cX3_cases 20 = .ok (.aload_n 0, 1) := dk_42 (dk_at dksX3_cases_0 20 rfl rfl)
theorem dX3_cases_21 : decode cX3_cases 21 = .ok (.invokevirtual 341, 3) := dk_182 1 85 (dk_at dksX3_cases_0 21 rfl rfl)
theorem dX3_cases_24 : decode cX3_cases 24 = .ok (.aload_n 0, 1) := dk_42 (dk_at dksX3_cases_1 0 rfl rfl)
theorem dX3_cases_25 : decode cX3_cases 25 = .ok (.getfield 267, 3) := dk_180 1 11 (dk_at dksX3_cases_1 1 rfl rfl)
theorem dX3_cases_28 : decode cX3_cases 28 = .ok (.aload_n 0, 1) := dk_42 (dk_at dksX3_cases_1 4 rfl rfl)
theorem dX3_cases_29 : decode cX3_cases 29 = .ok (.getfield 74, 3) := dk_180 0 74 (dk_at dksX3_cases_1 5 rfl rfl)
theorem dX3_cases_32 : decode cX3_cases 32 = .ok (.invokevirtual 348, 3) := dk_182 1 92 (dk_at dksX3_cases_1 8 rfl rfl)
theorem dX3_cases_35 : decode cX3_cases 35 = .ok (.aload_n 0, 1) := dk_42 (dk_at dksX3_cases_1 11 rfl rfl)
theorem dX3_cases_36 : decode cX3_cases 36 = .ok (.getfield 331, 3) := dk_180 1 75 (dk_at dksX3_cases_1 12 rfl rfl)
theorem dX3_cases_39 : decode cX3_cases 39 = .ok (.ireturn, 1) := dk_172 (dk_at dksX3_cases_1 15 rfl rfl)
def dkwX3_hour_0 : List UInt8 := [42, 180, 0, 71, 2, 160, 0, 7, 3, 167, 0, 7, 42, 180, 0, 71, 172]
abbrev dktX3_hour_0 : List UInt8 := dkwX3_hour_0 ++ []
theorem dksX3_hour_0 : cX3_hour.data.toList.drop 0 = dktX3_hour_0 := by decide +kernel
theorem dX3_hour_0 : decode cX3_hour 0 = .ok (.aload_n 0, 1) := dk_42 (dk_at dksX3_hour_0 0 rfl rfl)
theorem dX3_hour_1 : decode cX3_hour 1 = .ok (.getfield 71, 3) := dk_180 0 71 (dk_at dksX3_hour_0 1 rfl rfl)
theorem dX3_hour_4 : decode cX3_hour 4 = .ok (.iconst (-1), 1) := dk_2 (dk_at dksX3_hour_0 4 rfl rfl)
theorem dX3_hour_5 : decode cX3_hour 5 = .ok (.if_icmp .ne 7, 3) := dk_160 0 7 (dk_at dksX3_hour_0 5 rfl rfl)
theorem dX3_hour_8 : decode cX3_hour 8 = .ok (.iconst 0, 1) := dk_3 (dk_at dksX3_hour_0 8 rfl rfl)
theorem dX3_hour_9 : decode cX3_hour 9 = .ok (.goto 7, 3) := dk_167 0 7 (dk_at dksX3_hour_0 9 rfl rfl)
theorem dX3_hour_12 : decode cX3_hour 12 = .ok (.aload_n 0, 1) := dk_42 (dk_at dksX3_hour_0 12 rfl rfl)
theorem dX3_hour_13 : decode cX3_hour 13 = .ok (.getfield 71, 3) := dk_180 0 71 (dk_at dksX3_hour_0 13 rfl rfl)
theorem dX3_hour_16 : decode cX3_hour 16 = .ok (.ireturn, 1) := dk_172 (dk_at dksX3_hour_0 16 rfl rfl)
def dkwX3_isSpent_1 : List UInt8 := [184, 1, 52, 104, 61, 28, 17, 15, 160, 164, 0, 5, 4, 172, 132, 3, 1, 167, 255, 219, 3, 172]
abbrev dktX3_isSpent_1 : List UInt8 := dkwX3_isSpent_1 ++ []
def dkwX3_isSpent_0 : List UInt8 := [4, 61, 3, 62, 29, 42, 180, 0, 251, 162, 0, 35, 28, 42, 180, 0, 28, 16, 24, 29, 104, 27, 96, 46]
abbrev dktX3_isSpent_0 : List UInt8 := dkwX3_isSpent_0 ++ dktX3_isSpent_1
theorem dksX3_isSpent_0 : cX3_isSpent.data.toList.drop 0 = dktX3_isSpent_0 := by decide +kernel
theorem dksX3_isSpent_1 : cX3_isSpent.data.toList.drop 24 = dktX3_isSpent_1 := dk_seg dksX3_isSpent_0 24 rfl rfl
theorem dX3_isSpent_0 : decode cX3_isSpent 0 = .ok (.iconst 1, 1) := dk_4 (dk_at dksX3_isSpent_0 0 rfl rfl)
theorem dX3_isSpent_1 : decode cX3_isSpent 1 = .ok (.istore_n 2, 1) := dk_61 (dk_at dksX3_isSpent_0 1 rfl rfl)
theorem dX3_isSpent_2 : decode cX3_isSpent 2 = .ok (.iconst 0, 1) := dk_3 (dk_at dksX3_isSpent_0 2 rfl rfl)
theorem dX3_isSpent_3 : decode cX3_isSpent 3 = .ok (.istore_n 3, 1) := dk_62 (dk_at dksX3_isSpent_0 3 rfl rfl)
theorem dX3_isSpent_4 : decode cX3_isSpent 4 = .ok (.iload_n 3, 1) := dk_29 (dk_at dksX3_isSpent_0 4 rfl rfl)
theorem dX3_isSpent_5 : decode cX3_isSpent 5 = .ok (.aload_n 0, 1) := dk_42 (dk_at dksX3_isSpent_0 5 rfl rfl)
theorem dX3_isSpent_6 : decode cX3_isSpent 6 = .ok (.getfield 251, 3) := dk_180 0 251 (dk_at dksX3_isSpent_0 6 rfl rfl)
theorem dX3_isSpent_9 : decode cX3_isSpent 9 = .ok (.if_icmp .ge 35, 3) := dk_162 0 35 (dk_at dksX3_isSpent_0 9 rfl rfl)
theorem dX3_isSpent_12 : decode cX3_isSpent 12 = .ok (.iload_n 2, 1) := dk_28 (dk_at dksX3_isSpent_0 12 rfl rfl)
theorem dX3_isSpent_13 : decode cX3_isSpent 13 = .ok (.aload_n 0, 1) := dk_42 (dk_at dksX3_isSpent_0 13 rfl rfl)
theorem dX3_isSpent_14 : decode cX3_isSpent 14 = .ok (.getfield 28, 3) := dk_180 0 28 (dk_at dksX3_isSpent_0 14 rfl rfl)
theorem dX3_isSpent_17 : decode cX3_isSpent 17 = .ok (.bipush 24, 2) := dk_16 24 (dk_at dksX3_isSpent_0 17 rfl rfl)
theorem dX3_isSpent_19 : decode cX3_isSpent 19 = .ok (.iload_n 3, 1) := dk_29 (dk_at dksX3_isSpent_0 19 rfl rfl)
theorem dX3_isSpent_20 : decode cX3_isSpent 20 = .ok (.imul, 1) := dk_104 (dk_at dksX3_isSpent_0 20 rfl rfl)
theorem dX3_isSpent_21 : decode cX3_isSpent 21 = .ok (.iload_n 1, 1) := dk_27 (dk_at dksX3_isSpent_0 21 rfl rfl)
theorem dX3_isSpent_22 : decode cX3_isSpent 22 = .ok (.iadd, 1) := dk_96 (dk_at dksX3_isSpent_0 22 rfl rfl)
theorem dX3_isSpent_23 : decode cX3_isSpent 23 = .ok (.iaload, 1) := dk_46 (dk_at dksX3_isSpent_0 23 rfl rfl)
theorem dX3_isSpent_24 : decode cX3_isSpent 24 = .ok (.invokestatic 308, 3) := dk_184 1 52 (dk_at dksX3_isSpent_1 0 rfl rfl)
theorem dX3_isSpent_27 : decode cX3_isSpent 27 = .ok (.imul, 1) := dk_104 (dk_at dksX3_isSpent_1 3 rfl rfl)
theorem dX3_isSpent_28 : decode cX3_isSpent 28 = .ok (.istore_n 2, 1) := dk_61 (dk_at dksX3_isSpent_1 4 rfl rfl)
theorem dX3_isSpent_29 : decode cX3_isSpent 29 = .ok (.iload_n 2, 1) := dk_28 (dk_at dksX3_isSpent_1 5 rfl rfl)
theorem dX3_isSpent_30 : decode cX3_isSpent 30 = .ok (.sipush 4000, 3) := dk_17 15 160 (dk_at dksX3_isSpent_1 6 rfl rfl)
theorem dX3_isSpent_33 : decode cX3_isSpent 33 = .ok (.if_icmp .le 5, 3) := dk_164 0 5 (dk_at dksX3_isSpent_1 9 rfl rfl)
theorem dX3_isSpent_36 : decode cX3_isSpent 36 = .ok (.iconst 1, 1) := dk_4 (dk_at dksX3_isSpent_1 12 rfl rfl)
theorem dX3_isSpent_37 : decode cX3_isSpent 37 = .ok (.ireturn, 1) := dk_172 (dk_at dksX3_isSpent_1 13 rfl rfl)
theorem dX3_isSpent_38 : decode cX3_isSpent 38 = .ok (.iinc 3 1, 3) := dk_132 3 1 (dk_at dksX3_isSpent_1 14 rfl rfl)
theorem dX3_isSpent_41 : decode cX3_isSpent 41 = .ok (.goto (-37), 3) := dk_167 255 219 (dk_at dksX3_isSpent_1 17 rfl rfl)
theorem dX3_isSpent_44 : decode cX3_isSpent 44 = .ok (.iconst 0, 1) := dk_3 (dk_at dksX3_isSpent_1 20 rfl rfl)
theorem dX3_isSpent_45 : decode cX3_isSpent 45 = .ok (.ireturn, 1) := dk_172 (dk_at dksX3_isSpent_1 21 rfl rfl)
def dkwX3_seeks_5 : List UInt8 := [167, 255, 185, 177]
abbrev dktX3_seeks_5 : List UInt8 := dkwX3_seeks_5 ++ []
def dkwX3_seeks_4 : List UInt8 := [79, 132, 5, 1, 167, 255, 222, 42, 89, 180, 1, 75, 4, 96, 181, 1, 75, 42, 27, 182, 1, 82, 54, 4]
abbrev dktX3_seeks_4 : List UInt8 := dkwX3_seeks_4 ++ dktX3_seeks_5
def dkwX3_seeks_3 : List UInt8 := [162, 0, 31, 42, 180, 0, 80, 16, 6, 42, 180, 1, 75, 104, 21, 5, 96, 42, 180, 0, 77, 21, 5, 46]
abbrev dktX3_seeks_3 : List UInt8 := dkwX3_seeks_3 ++ dktX3_seeks_4
def dkwX3_seeks_2 : List UInt8 := [21, 4, 153, 0, 72, 42, 28, 45, 182, 1, 78, 153, 0, 53, 3, 54, 5, 21, 5, 42, 180, 0, 251]
abbrev dktX3_seeks_2 : List UInt8 := dkwX3_seeks_2 ++ dktX3_seeks_3
def dkwX3_seeks_1 : List UInt8 := [180, 0, 28, 16, 24, 21, 4, 104, 27, 96, 46, 184, 1, 24, 79, 132, 4, 1, 167, 255, 222, 4, 54, 4]
abbrev dktX3_seeks_1 : List UInt8 := dkwX3_seeks_1 ++ dktX3_seeks_2
def dkwX3_seeks_0 : List UInt8 := [42, 3, 181, 1, 75, 3, 54, 4, 21, 4, 42, 180, 0, 251, 162, 0, 31, 42, 180, 0, 77, 21, 4, 42]
abbrev dktX3_seeks_0 : List UInt8 := dkwX3_seeks_0 ++ dktX3_seeks_1
theorem dksX3_seeks_0 : cX3_seeks.data.toList.drop 0 = dktX3_seeks_0 := by decide +kernel
theorem dksX3_seeks_1 : cX3_seeks.data.toList.drop 24 = dktX3_seeks_1 := dk_seg dksX3_seeks_0 24 rfl rfl
theorem dksX3_seeks_2 : cX3_seeks.data.toList.drop 48 = dktX3_seeks_2 := dk_seg dksX3_seeks_1 24 rfl rfl
theorem dksX3_seeks_3 : cX3_seeks.data.toList.drop 71 = dktX3_seeks_3 := dk_seg dksX3_seeks_2 23 rfl rfl
theorem dksX3_seeks_4 : cX3_seeks.data.toList.drop 95 = dktX3_seeks_4 := dk_seg dksX3_seeks_3 24 rfl rfl
theorem dksX3_seeks_5 : cX3_seeks.data.toList.drop 119 = dktX3_seeks_5 := dk_seg dksX3_seeks_4 24 rfl rfl
theorem dX3_seeks_0 : decode cX3_seeks 0 = .ok (.aload_n 0, 1) := dk_42 (dk_at dksX3_seeks_0 0 rfl rfl)
theorem dX3_seeks_1 : decode cX3_seeks 1 = .ok (.iconst 0, 1) := dk_3 (dk_at dksX3_seeks_0 1 rfl rfl)
theorem dX3_seeks_2 : decode cX3_seeks 2 = .ok (.putfield 331, 3) := dk_181 1 75 (dk_at dksX3_seeks_0 2 rfl rfl)
theorem dX3_seeks_5 : decode cX3_seeks 5 = .ok (.iconst 0, 1) := dk_3 (dk_at dksX3_seeks_0 5 rfl rfl)
theorem dX3_seeks_6 : decode cX3_seeks 6 = .ok (.istore 4, 2) := dk_54 4 (dk_at dksX3_seeks_0 6 rfl rfl)
theorem dX3_seeks_8 : decode cX3_seeks 8 = .ok (.iload 4, 2) := dk_21 4 (dk_at dksX3_seeks_0 8 rfl rfl)
theorem dX3_seeks_10 : decode cX3_seeks 10 = .ok (.aload_n 0, 1) := dk_42 (dk_at dksX3_seeks_0 10 rfl rfl)
theorem dX3_seeks_11 : decode cX3_seeks 11 = .ok (.getfield 251, 3) := dk_180 0 251 (dk_at dksX3_seeks_0 11 rfl rfl)
theorem dX3_seeks_14 : decode cX3_seeks 14 = .ok (.if_icmp .ge 31, 3) := dk_162 0 31 (dk_at dksX3_seeks_0 14 rfl rfl)
theorem dX3_seeks_17 : decode cX3_seeks 17 = .ok (.aload_n 0, 1) := dk_42 (dk_at dksX3_seeks_0 17 rfl rfl)
theorem dX3_seeks_18 : decode cX3_seeks 18 = .ok (.getfield 77, 3) := dk_180 0 77 (dk_at dksX3_seeks_0 18 rfl rfl)
theorem dX3_seeks_21 : decode cX3_seeks 21 = .ok (.iload 4, 2) := dk_21 4 (dk_at dksX3_seeks_0 21 rfl rfl)
theorem dX3_seeks_23 : decode cX3_seeks 23 = .ok (.aload_n 0, 1) := dk_42 (dk_at dksX3_seeks_0 23 rfl rfl)
theorem dX3_seeks_24 : decode cX3_seeks 24 = .ok (.getfield 28, 3) := dk_180 0 28 (dk_at dksX3_seeks_1 0 rfl rfl)
theorem dX3_seeks_27 : decode cX3_seeks 27 = .ok (.bipush 24, 2) := dk_16 24 (dk_at dksX3_seeks_1 3 rfl rfl)
theorem dX3_seeks_29 : decode cX3_seeks 29 = .ok (.iload 4, 2) := dk_21 4 (dk_at dksX3_seeks_1 5 rfl rfl)
theorem dX3_seeks_31 : decode cX3_seeks 31 = .ok (.imul, 1) := dk_104 (dk_at dksX3_seeks_1 7 rfl rfl)
theorem dX3_seeks_32 : decode cX3_seeks 32 = .ok (.iload_n 1, 1) := dk_27 (dk_at dksX3_seeks_1 8 rfl rfl)
theorem dX3_seeks_33 : decode cX3_seeks 33 = .ok (.iadd, 1) := dk_96 (dk_at dksX3_seeks_1 9 rfl rfl)
theorem dX3_seeks_34 : decode cX3_seeks 34 = .ok (.iaload, 1) := dk_46 (dk_at dksX3_seeks_1 10 rfl rfl)
theorem dX3_seeks_35 : decode cX3_seeks 35 = .ok (.invokestatic 280, 3) := dk_184 1 24 (dk_at dksX3_seeks_1 11 rfl rfl)
theorem dX3_seeks_38 : decode cX3_seeks 38 = .ok (.iastore, 1) := dk_79 (dk_at dksX3_seeks_1 14 rfl rfl)
theorem dX3_seeks_39 : decode cX3_seeks 39 = .ok (.iinc 4 1, 3) := dk_132 4 1 (dk_at dksX3_seeks_1 15 rfl rfl)
theorem dX3_seeks_42 : decode cX3_seeks 42 = .ok (.goto (-34), 3) := dk_167 255 222 (dk_at dksX3_seeks_1 18 rfl rfl)
theorem dX3_seeks_45 : decode cX3_seeks 45 = .ok (.iconst 1, 1) := dk_4 (dk_at dksX3_seeks_1 21 rfl rfl)
theorem dX3_seeks_46 : decode cX3_seeks 46 = .ok (.istore 4, 2) := dk_54 4 (dk_at dksX3_seeks_1 22 rfl rfl)
theorem dX3_seeks_48 : decode cX3_seeks 48 = .ok (.iload 4, 2) := dk_21 4 (dk_at dksX3_seeks_2 0 rfl rfl)
theorem dX3_seeks_50 : decode cX3_seeks 50 = .ok (.ifCond .eq 72, 3) := dk_153 0 72 (dk_at dksX3_seeks_2 2 rfl rfl)
theorem dX3_seeks_53 : decode cX3_seeks 53 = .ok (.aload_n 0, 1) := dk_42 (dk_at dksX3_seeks_2 5 rfl rfl)
theorem dX3_seeks_54 : decode cX3_seeks 54 = .ok (.iload_n 2, 1) := dk_28 (dk_at dksX3_seeks_2 6 rfl rfl)
theorem dX3_seeks_55 : decode cX3_seeks 55 = .ok (.aload_n 3, 1) := dk_45 (dk_at dksX3_seeks_2 7 rfl rfl)
theorem dX3_seeks_56 : decode cX3_seeks 56 = .ok (.invokevirtual 334, 3) := dk_182 1 78 (dk_at dksX3_seeks_2 8 rfl rfl)
theorem dX3_seeks_59 : decode cX3_seeks 59 = .ok (.ifCond .eq 53, 3) := dk_153 0 53 (dk_at dksX3_seeks_2 11 rfl rfl)
theorem dX3_seeks_62 : decode cX3_seeks 62 = .ok (.iconst 0, 1) := dk_3 (dk_at dksX3_seeks_2 14 rfl rfl)
theorem dX3_seeks_63 : decode cX3_seeks 63 = .ok (.istore 5, 2) := dk_54 5 (dk_at dksX3_seeks_2 15 rfl rfl)
theorem dX3_seeks_65 : decode cX3_seeks 65 = .ok (.iload 5, 2) := dk_21 5 (dk_at dksX3_seeks_2 17 rfl rfl)
theorem dX3_seeks_67 : decode cX3_seeks 67 = .ok (.aload_n 0, 1) := dk_42 (dk_at dksX3_seeks_2 19 rfl rfl)
theorem dX3_seeks_68 : decode cX3_seeks 68 = .ok (.getfield 251, 3) := dk_180 0 251 (dk_at dksX3_seeks_2 20 rfl rfl)
theorem dX3_seeks_71 : decode cX3_seeks 71 = .ok (.if_icmp .ge 31, 3) := dk_162 0 31 (dk_at dksX3_seeks_3 0 rfl rfl)
theorem dX3_seeks_74 : decode cX3_seeks 74 = .ok (.aload_n 0, 1) := dk_42 (dk_at dksX3_seeks_3 3 rfl rfl)
theorem dX3_seeks_75 : decode cX3_seeks 75 = .ok (.getfield 80, 3) := dk_180 0 80 (dk_at dksX3_seeks_3 4 rfl rfl)
theorem dX3_seeks_78 : decode cX3_seeks 78 = .ok (.bipush 6, 2) := dk_16 6 (dk_at dksX3_seeks_3 7 rfl rfl)
theorem dX3_seeks_80 : decode cX3_seeks 80 = .ok (.aload_n 0, 1) := dk_42 (dk_at dksX3_seeks_3 9 rfl rfl)
theorem dX3_seeks_81 : decode cX3_seeks 81 = .ok (.getfield 331, 3) := dk_180 1 75 (dk_at dksX3_seeks_3 10 rfl rfl)
theorem dX3_seeks_84 : decode cX3_seeks 84 = .ok (.imul, 1) := dk_104 (dk_at dksX3_seeks_3 13 rfl rfl)
theorem dX3_seeks_85 : decode cX3_seeks 85 = .ok (.iload 5, 2) := dk_21 5 (dk_at dksX3_seeks_3 14 rfl rfl)
theorem dX3_seeks_87 : decode cX3_seeks 87 = .ok (.iadd, 1) := dk_96 (dk_at dksX3_seeks_3 16 rfl rfl)
theorem dX3_seeks_88 : decode cX3_seeks 88 = .ok (.aload_n 0, 1) := dk_42 (dk_at dksX3_seeks_3 17 rfl rfl)
theorem dX3_seeks_89 : decode cX3_seeks 89 = .ok (.getfield 77, 3) := dk_180 0 77 (dk_at dksX3_seeks_3 18 rfl rfl)
theorem dX3_seeks_92 : decode cX3_seeks 92 = .ok (.iload 5, 2) := dk_21 5 (dk_at dksX3_seeks_3 21 rfl rfl)
theorem dX3_seeks_94 : decode cX3_seeks 94 = .ok (.iaload, 1) := dk_46 (dk_at dksX3_seeks_3 23 rfl rfl)
theorem dX3_seeks_95 : decode cX3_seeks 95 = .ok (.iastore, 1) := dk_79 (dk_at dksX3_seeks_4 0 rfl rfl)
theorem dX3_seeks_96 : decode cX3_seeks 96 = .ok (.iinc 5 1, 3) := dk_132 5 1 (dk_at dksX3_seeks_4 1 rfl rfl)
theorem dX3_seeks_99 : decode cX3_seeks 99 = .ok (.goto (-34), 3) := dk_167 255 222 (dk_at dksX3_seeks_4 4 rfl rfl)
theorem dX3_seeks_102 : decode cX3_seeks 102 = .ok (.aload_n 0, 1) := dk_42 (dk_at dksX3_seeks_4 7 rfl rfl)
theorem dX3_seeks_103 : decode cX3_seeks 103 = .ok (.dup, 1) := dk_89 (dk_at dksX3_seeks_4 8 rfl rfl)
theorem dX3_seeks_104 : decode cX3_seeks 104 = .ok (.getfield 331, 3) := dk_180 1 75 (dk_at dksX3_seeks_4 9 rfl rfl)
theorem dX3_seeks_107 : decode cX3_seeks 107 = .ok (.iconst 1, 1) := dk_4 (dk_at dksX3_seeks_4 12 rfl rfl)
theorem dX3_seeks_108 : decode cX3_seeks 108 = .ok (.iadd, 1) := dk_96 (dk_at dksX3_seeks_4 13 rfl rfl)
theorem dX3_seeks_109 : decode cX3_seeks 109 = .ok (.putfield 331, 3) := dk_181 1 75 (dk_at dksX3_seeks_4 14 rfl rfl)
theorem dX3_seeks_112 : decode cX3_seeks 112 = .ok (.aload_n 0, 1) := dk_42 (dk_at dksX3_seeks_4 17 rfl rfl)
theorem dX3_seeks_113 : decode cX3_seeks 113 = .ok (.iload_n 1, 1) := dk_27 (dk_at dksX3_seeks_4 18 rfl rfl)
theorem dX3_seeks_114 : decode cX3_seeks 114 = .ok (.invokevirtual 338, 3) := dk_182 1 82 (dk_at dksX3_seeks_4 19 rfl rfl)
theorem dX3_seeks_117 : decode cX3_seeks 117 = .ok (.istore 4, 2) := dk_54 4 (dk_at dksX3_seeks_4 22 rfl rfl)
theorem dX3_seeks_119 : decode cX3_seeks 119 = .ok (.goto (-71), 3) := dk_167 255 185 (dk_at dksX3_seeks_5 0 rfl rfl)
theorem dX3_seeks_122 : decode cX3_seeks 122 = .ok (.return_, 1) := dk_177 (dk_at dksX3_seeks_5 3 rfl rfl)
def dkwX3_fits_3 : List UInt8 := [132, 3, 1, 167, 255, 187, 4, 172]
abbrev dktX3_fits_3 : List UInt8 := dkwX3_fits_3 ++ []
def dkwX3_fits_2 : List UInt8 := [42, 180, 0, 13, 29, 46, 46, 182, 1, 58, 54, 4, 21, 4, 44, 29, 46, 159, 0, 5, 3, 172]
abbrev dktX3_fits_2 : List UInt8 := dkwX3_fits_2 ++ dktX3_fits_3
def dkwX3_fits_1 : List UInt8 := [180, 0, 13, 29, 46, 2, 160, 0, 7, 6, 167, 0, 24, 42, 42, 180, 0, 13, 29, 46, 42, 180, 0, 77]
abbrev dktX3_fits_1 : List UInt8 := dkwX3_fits_1 ++ dktX3_fits_2
def dkwX3_fits_0 : List UInt8 := [3, 62, 29, 42, 180, 0, 248, 162, 0, 67, 27, 29, 122, 4, 126, 154, 0, 6, 167, 0, 50, 42]
abbrev dktX3_fits_0 : List UInt8 := dkwX3_fits_0 ++ dktX3_fits_1
theorem dksX3_fits_0 : cX3_fits.data.toList.drop 0 = dktX3_fits_0 := by decide +kernel
theorem dksX3_fits_1 : cX3_fits.data.toList.drop 22 = dktX3_fits_1 := dk_seg dksX3_fits_0 22 rfl rfl
theorem dksX3_fits_2 : cX3_fits.data.toList.drop 46 = dktX3_fits_2 := dk_seg dksX3_fits_1 24 rfl rfl
theorem dksX3_fits_3 : cX3_fits.data.toList.drop 68 = dktX3_fits_3 := dk_seg dksX3_fits_2 22 rfl rfl
theorem dX3_fits_0 : decode cX3_fits 0 = .ok (.iconst 0, 1) := dk_3 (dk_at dksX3_fits_0 0 rfl rfl)
theorem dX3_fits_1 : decode cX3_fits 1 = .ok (.istore_n 3, 1) := dk_62 (dk_at dksX3_fits_0 1 rfl rfl)
theorem dX3_fits_2 : decode cX3_fits 2 = .ok (.iload_n 3, 1) := dk_29 (dk_at dksX3_fits_0 2 rfl rfl)
theorem dX3_fits_3 : decode cX3_fits 3 = .ok (.aload_n 0, 1) := dk_42 (dk_at dksX3_fits_0 3 rfl rfl)
theorem dX3_fits_4 : decode cX3_fits 4 = .ok (.getfield 248, 3) := dk_180 0 248 (dk_at dksX3_fits_0 4 rfl rfl)
theorem dX3_fits_7 : decode cX3_fits 7 = .ok (.if_icmp .ge 67, 3) := dk_162 0 67 (dk_at dksX3_fits_0 7 rfl rfl)
theorem dX3_fits_10 : decode cX3_fits 10 = .ok (.iload_n 1, 1) := dk_27 (dk_at dksX3_fits_0 10 rfl rfl)
theorem dX3_fits_11 : decode cX3_fits 11 = .ok (.iload_n 3, 1) := dk_29 (dk_at dksX3_fits_0 11 rfl rfl)
theorem dX3_fits_12 : decode cX3_fits 12 = .ok (.ishr, 1) := dk_122 (dk_at dksX3_fits_0 12 rfl rfl)
theorem dX3_fits_13 : decode cX3_fits 13 = .ok (.iconst 1, 1) := dk_4 (dk_at dksX3_fits_0 13 rfl rfl)
theorem dX3_fits_14 : decode cX3_fits 14 = .ok (.iand, 1) := dk_126 (dk_at dksX3_fits_0 14 rfl rfl)
theorem dX3_fits_15 : decode cX3_fits 15 = .ok (.ifCond .ne 6, 3) := dk_154 0 6 (dk_at dksX3_fits_0 15 rfl rfl)
theorem dX3_fits_18 : decode cX3_fits 18 = .ok (.goto 50, 3) := dk_167 0 50 (dk_at dksX3_fits_0 18 rfl rfl)
theorem dX3_fits_21 : decode cX3_fits 21 = .ok (.aload_n 0, 1) := dk_42 (dk_at dksX3_fits_0 21 rfl rfl)
theorem dX3_fits_22 : decode cX3_fits 22 = .ok (.getfield 13, 3) := dk_180 0 13 (dk_at dksX3_fits_1 0 rfl rfl)
theorem dX3_fits_25 : decode cX3_fits 25 = .ok (.iload_n 3, 1) := dk_29 (dk_at dksX3_fits_1 3 rfl rfl)
theorem dX3_fits_26 : decode cX3_fits 26 = .ok (.iaload, 1) := dk_46 (dk_at dksX3_fits_1 4 rfl rfl)
theorem dX3_fits_27 : decode cX3_fits 27 = .ok (.iconst (-1), 1) := dk_2 (dk_at dksX3_fits_1 5 rfl rfl)
theorem dX3_fits_28 : decode cX3_fits 28 = .ok (.if_icmp .ne 7, 3) := dk_160 0 7 (dk_at dksX3_fits_1 6 rfl rfl)
theorem dX3_fits_31 : decode cX3_fits 31 = .ok (.iconst 3, 1) := dk_6 (dk_at dksX3_fits_1 9 rfl rfl)
theorem dX3_fits_32 : decode cX3_fits 32 = .ok (.goto 24, 3) := dk_167 0 24 (dk_at dksX3_fits_1 10 rfl rfl)
theorem dX3_fits_35 : decode cX3_fits 35 = .ok (.aload_n 0, 1) := dk_42 (dk_at dksX3_fits_1 13 rfl rfl)
theorem dX3_fits_36 : decode cX3_fits 36 = .ok (.aload_n 0, 1) := dk_42 (dk_at dksX3_fits_1 14 rfl rfl)
theorem dX3_fits_37 : decode cX3_fits 37 = .ok (.getfield 13, 3) := dk_180 0 13 (dk_at dksX3_fits_1 15 rfl rfl)
theorem dX3_fits_40 : decode cX3_fits 40 = .ok (.iload_n 3, 1) := dk_29 (dk_at dksX3_fits_1 18 rfl rfl)
theorem dX3_fits_41 : decode cX3_fits 41 = .ok (.iaload, 1) := dk_46 (dk_at dksX3_fits_1 19 rfl rfl)
theorem dX3_fits_42 : decode cX3_fits 42 = .ok (.aload_n 0, 1) := dk_42 (dk_at dksX3_fits_1 20 rfl rfl)
theorem dX3_fits_43 : decode cX3_fits 43 = .ok (.getfield 77, 3) := dk_180 0 77 (dk_at dksX3_fits_1 21 rfl rfl)
theorem dX3_fits_46 : decode cX3_fits 46 = .ok (.aload_n 0, 1) := dk_42 (dk_at dksX3_fits_2 0 rfl rfl)
theorem dX3_fits_47 : decode cX3_fits 47 = .ok (.getfield 13, 3) := dk_180 0 13 (dk_at dksX3_fits_2 1 rfl rfl)
theorem dX3_fits_50 : decode cX3_fits 50 = .ok (.iload_n 3, 1) := dk_29 (dk_at dksX3_fits_2 4 rfl rfl)
theorem dX3_fits_51 : decode cX3_fits 51 = .ok (.iaload, 1) := dk_46 (dk_at dksX3_fits_2 5 rfl rfl)
theorem dX3_fits_52 : decode cX3_fits 52 = .ok (.iaload, 1) := dk_46 (dk_at dksX3_fits_2 6 rfl rfl)
theorem dX3_fits_53 : decode cX3_fits 53 = .ok (.invokevirtual 314, 3) := dk_182 1 58 (dk_at dksX3_fits_2 7 rfl rfl)
theorem dX3_fits_56 : decode cX3_fits 56 = .ok (.istore 4, 2) := dk_54 4 (dk_at dksX3_fits_2 10 rfl rfl)
theorem dX3_fits_58 : decode cX3_fits 58 = .ok (.iload 4, 2) := dk_21 4 (dk_at dksX3_fits_2 12 rfl rfl)
theorem dX3_fits_60 : decode cX3_fits 60 = .ok (.aload_n 2, 1) := dk_44 (dk_at dksX3_fits_2 14 rfl rfl)
theorem dX3_fits_61 : decode cX3_fits 61 = .ok (.iload_n 3, 1) := dk_29 (dk_at dksX3_fits_2 15 rfl rfl)
theorem dX3_fits_62 : decode cX3_fits 62 = .ok (.iaload, 1) := dk_46 (dk_at dksX3_fits_2 16 rfl rfl)
theorem dX3_fits_63 : decode cX3_fits 63 = .ok (.if_icmp .eq 5, 3) := dk_159 0 5 (dk_at dksX3_fits_2 17 rfl rfl)
theorem dX3_fits_66 : decode cX3_fits 66 = .ok (.iconst 0, 1) := dk_3 (dk_at dksX3_fits_2 20 rfl rfl)
theorem dX3_fits_67 : decode cX3_fits 67 = .ok (.ireturn, 1) := dk_172 (dk_at dksX3_fits_2 21 rfl rfl)
theorem dX3_fits_68 : decode cX3_fits 68 = .ok (.iinc 3 1, 3) := dk_132 3 1 (dk_at dksX3_fits_3 0 rfl rfl)
theorem dX3_fits_71 : decode cX3_fits 71 = .ok (.goto (-69), 3) := dk_167 255 187 (dk_at dksX3_fits_3 3 rfl rfl)
theorem dX3_fits_74 : decode cX3_fits 74 = .ok (.iconst 1, 1) := dk_4 (dk_at dksX3_fits_3 6 rfl rfl)
theorem dX3_fits_75 : decode cX3_fits 75 = .ok (.ireturn, 1) := dk_172 (dk_at dksX3_fits_3 7 rfl rfl)
def dkwX3_counts_3 : List UInt8 := [182, 1, 71, 79, 28, 155, 0, 7, 4, 167, 0, 4, 3, 172]
abbrev dktX3_counts_3 : List UInt8 := dkwX3_counts_3 ++ []
def dkwX3_counts_2 : List UInt8 := [132, 2, 255, 167, 255, 213, 28, 155, 0, 21, 42, 180, 0, 77, 28, 42, 28, 27, 42, 180, 0, 77, 28, 46]
abbrev dktX3_counts_2 : List UInt8 := dkwX3_counts_2 ++ dktX3_counts_3
def dkwX3_counts_1 : List UInt8 := [160, 0, 29, 42, 180, 0, 77, 28, 42, 180, 0, 28, 16, 24, 28, 104, 27, 96, 46, 184, 1, 24, 79]
abbrev dktX3_counts_1 : List UInt8 := dkwX3_counts_1 ++ dktX3_counts_2
def dkwX3_counts_0 : List UInt8 := [42, 180, 0, 251, 4, 100, 61, 28, 155, 0, 45, 42, 28, 27, 42, 180, 0, 77, 28, 46, 182, 1, 71, 2]
abbrev dktX3_counts_0 : List UInt8 := dkwX3_counts_0 ++ dktX3_counts_1
theorem dksX3_counts_0 : cX3_counts.data.toList.drop 0 = dktX3_counts_0 := by decide +kernel
theorem dksX3_counts_1 : cX3_counts.data.toList.drop 24 = dktX3_counts_1 := dk_seg dksX3_counts_0 24 rfl rfl
theorem dksX3_counts_2 : cX3_counts.data.toList.drop 47 = dktX3_counts_2 := dk_seg dksX3_counts_1 23 rfl rfl
theorem dksX3_counts_3 : cX3_counts.data.toList.drop 71 = dktX3_counts_3 := dk_seg dksX3_counts_2 24 rfl rfl
theorem dX3_counts_0 : decode cX3_counts 0 = .ok (.aload_n 0, 1) := dk_42 (dk_at dksX3_counts_0 0 rfl rfl)
theorem dX3_counts_1 : decode cX3_counts 1 = .ok (.getfield 251, 3) := dk_180 0 251 (dk_at dksX3_counts_0 1 rfl rfl)
theorem dX3_counts_4 : decode cX3_counts 4 = .ok (.iconst 1, 1) := dk_4 (dk_at dksX3_counts_0 4 rfl rfl)
theorem dX3_counts_5 : decode cX3_counts 5 = .ok (.isub, 1) := dk_100 (dk_at dksX3_counts_0 5 rfl rfl)
theorem dX3_counts_6 : decode cX3_counts 6 = .ok (.istore_n 2, 1) := dk_61 (dk_at dksX3_counts_0 6 rfl rfl)
theorem dX3_counts_7 : decode cX3_counts 7 = .ok (.iload_n 2, 1) := dk_28 (dk_at dksX3_counts_0 7 rfl rfl)
theorem dX3_counts_8 : decode cX3_counts 8 = .ok (.ifCond .lt 45, 3) := dk_155 0 45 (dk_at dksX3_counts_0 8 rfl rfl)
theorem dX3_counts_11 : decode cX3_counts 11 = .ok (.aload_n 0, 1) := dk_42 (dk_at dksX3_counts_0 11 rfl rfl)
theorem dX3_counts_12 : decode cX3_counts 12 = .ok (.iload_n 2, 1) := dk_28 (dk_at dksX3_counts_0 12 rfl rfl)
theorem dX3_counts_13 : decode cX3_counts 13 = .ok (.iload_n 1, 1) := dk_27 (dk_at dksX3_counts_0 13 rfl rfl)
theorem dX3_counts_14 : decode cX3_counts 14 = .ok (.aload_n 0, 1) := dk_42 (dk_at dksX3_counts_0 14 rfl rfl)
theorem dX3_counts_15 : decode cX3_counts 15 = .ok (.getfield 77, 3) := dk_180 0 77 (dk_at dksX3_counts_0 15 rfl rfl)
theorem dX3_counts_18 : decode cX3_counts 18 = .ok (.iload_n 2, 1) := dk_28 (dk_at dksX3_counts_0 18 rfl rfl)
theorem dX3_counts_19 : decode cX3_counts 19 = .ok (.iaload, 1) := dk_46 (dk_at dksX3_counts_0 19 rfl rfl)
theorem dX3_counts_20 : decode cX3_counts 20 = .ok (.invokevirtual 327, 3) := dk_182 1 71 (dk_at dksX3_counts_0 20 rfl rfl)
theorem dX3_counts_23 : decode cX3_counts 23 = .ok (.iconst (-1), 1) := dk_2 (dk_at dksX3_counts_0 23 rfl rfl)
theorem dX3_counts_24 : decode cX3_counts 24 = .ok (.if_icmp .ne 29, 3) := dk_160 0 29 (dk_at dksX3_counts_1 0 rfl rfl)
theorem dX3_counts_27 : decode cX3_counts 27 = .ok (.aload_n 0, 1) := dk_42 (dk_at dksX3_counts_1 3 rfl rfl)
theorem dX3_counts_28 : decode cX3_counts 28 = .ok (.getfield 77, 3) := dk_180 0 77 (dk_at dksX3_counts_1 4 rfl rfl)
theorem dX3_counts_31 : decode cX3_counts 31 = .ok (.iload_n 2, 1) := dk_28 (dk_at dksX3_counts_1 7 rfl rfl)
theorem dX3_counts_32 : decode cX3_counts 32 = .ok (.aload_n 0, 1) := dk_42 (dk_at dksX3_counts_1 8 rfl rfl)
theorem dX3_counts_33 : decode cX3_counts 33 = .ok (.getfield 28, 3) := dk_180 0 28 (dk_at dksX3_counts_1 9 rfl rfl)
theorem dX3_counts_36 : decode cX3_counts 36 = .ok (.bipush 24, 2) := dk_16 24 (dk_at dksX3_counts_1 12 rfl rfl)
theorem dX3_counts_38 : decode cX3_counts 38 = .ok (.iload_n 2, 1) := dk_28 (dk_at dksX3_counts_1 14 rfl rfl)
theorem dX3_counts_39 : decode cX3_counts 39 = .ok (.imul, 1) := dk_104 (dk_at dksX3_counts_1 15 rfl rfl)
theorem dX3_counts_40 : decode cX3_counts 40 = .ok (.iload_n 1, 1) := dk_27 (dk_at dksX3_counts_1 16 rfl rfl)
theorem dX3_counts_41 : decode cX3_counts 41 = .ok (.iadd, 1) := dk_96 (dk_at dksX3_counts_1 17 rfl rfl)
theorem dX3_counts_42 : decode cX3_counts 42 = .ok (.iaload, 1) := dk_46 (dk_at dksX3_counts_1 18 rfl rfl)
theorem dX3_counts_43 : decode cX3_counts 43 = .ok (.invokestatic 280, 3) := dk_184 1 24 (dk_at dksX3_counts_1 19 rfl rfl)
theorem dX3_counts_46 : decode cX3_counts 46 = .ok (.iastore, 1) := dk_79 (dk_at dksX3_counts_1 22 rfl rfl)
theorem dX3_counts_47 : decode cX3_counts 47 = .ok (.iinc 2 (-1), 3) := dk_132 2 255 (dk_at dksX3_counts_2 0 rfl rfl)
theorem dX3_counts_50 : decode cX3_counts 50 = .ok (.goto (-43), 3) := dk_167 255 213 (dk_at dksX3_counts_2 3 rfl rfl)
theorem dX3_counts_53 : decode cX3_counts 53 = .ok (.iload_n 2, 1) := dk_28 (dk_at dksX3_counts_2 6 rfl rfl)
theorem dX3_counts_54 : decode cX3_counts 54 = .ok (.ifCond .lt 21, 3) := dk_155 0 21 (dk_at dksX3_counts_2 7 rfl rfl)
theorem dX3_counts_57 : decode cX3_counts 57 = .ok (.aload_n 0, 1) := dk_42 (dk_at dksX3_counts_2 10 rfl rfl)
theorem dX3_counts_58 : decode cX3_counts 58 = .ok (.getfield 77, 3) := dk_180 0 77 (dk_at dksX3_counts_2 11 rfl rfl)
theorem dX3_counts_61 : decode cX3_counts 61 = .ok (.iload_n 2, 1) := dk_28 (dk_at dksX3_counts_2 14 rfl rfl)
theorem dX3_counts_62 : decode cX3_counts 62 = .ok (.aload_n 0, 1) := dk_42 (dk_at dksX3_counts_2 15 rfl rfl)
theorem dX3_counts_63 : decode cX3_counts 63 = .ok (.iload_n 2, 1) := dk_28 (dk_at dksX3_counts_2 16 rfl rfl)
theorem dX3_counts_64 : decode cX3_counts 64 = .ok (.iload_n 1, 1) := dk_27 (dk_at dksX3_counts_2 17 rfl rfl)
theorem dX3_counts_65 : decode cX3_counts 65 = .ok (.aload_n 0, 1) := dk_42 (dk_at dksX3_counts_2 18 rfl rfl)
theorem dX3_counts_66 : decode cX3_counts 66 = .ok (.getfield 77, 3) := dk_180 0 77 (dk_at dksX3_counts_2 19 rfl rfl)
theorem dX3_counts_69 : decode cX3_counts 69 = .ok (.iload_n 2, 1) := dk_28 (dk_at dksX3_counts_2 22 rfl rfl)
theorem dX3_counts_70 : decode cX3_counts 70 = .ok (.iaload, 1) := dk_46 (dk_at dksX3_counts_2 23 rfl rfl)
theorem dX3_counts_71 : decode cX3_counts 71 = .ok (.invokevirtual 327, 3) := dk_182 1 71 (dk_at dksX3_counts_3 0 rfl rfl)
theorem dX3_counts_74 : decode cX3_counts 74 = .ok (.iastore, 1) := dk_79 (dk_at dksX3_counts_3 3 rfl rfl)
theorem dX3_counts_75 : decode cX3_counts 75 = .ok (.iload_n 2, 1) := dk_28 (dk_at dksX3_counts_3 4 rfl rfl)
theorem dX3_counts_76 : decode cX3_counts 76 = .ok (.ifCond .lt 7, 3) := dk_155 0 7 (dk_at dksX3_counts_3 5 rfl rfl)
theorem dX3_counts_79 : decode cX3_counts 79 = .ok (.iconst 1, 1) := dk_4 (dk_at dksX3_counts_3 8 rfl rfl)
theorem dX3_counts_80 : decode cX3_counts 80 = .ok (.goto 4, 3) := dk_167 0 4 (dk_at dksX3_counts_3 9 rfl rfl)
theorem dX3_counts_83 : decode cX3_counts 83 = .ok (.iconst 0, 1) := dk_3 (dk_at dksX3_counts_3 12 rfl rfl)
theorem dX3_counts_84 : decode cX3_counts 84 = .ok (.ireturn, 1) := dk_172 (dk_at dksX3_counts_3 13 rfl rfl)
def dkwX3_behind_1 : List UInt8 := [21, 4, 122, 4, 126, 4, 160, 0, 6, 21, 4, 172, 132, 4, 1, 167, 255, 223, 2, 172]
abbrev dktX3_behind_1 : List UInt8 := dkwX3_behind_1 ++ []
def dkwX3_behind_0 : List UInt8 := [29, 4, 96, 54, 4, 21, 4, 16, 18, 162, 0, 32, 42, 180, 0, 28, 16, 24, 27, 104, 28, 96, 46]
abbrev dktX3_behind_0 : List UInt8 := dkwX3_behind_0 ++ dktX3_behind_1
theorem dksX3_behind_0 : cX3_behind.data.toList.drop 0 = dktX3_behind_0 := by decide +kernel
theorem dksX3_behind_1 : cX3_behind.data.toList.drop 23 = dktX3_behind_1 := dk_seg dksX3_behind_0 23 rfl rfl
theorem dX3_behind_0 : decode cX3_behind 0 = .ok (.iload_n 3, 1) := dk_29 (dk_at dksX3_behind_0 0 rfl rfl)
theorem dX3_behind_1 : decode cX3_behind 1 = .ok (.iconst 1, 1) := dk_4 (dk_at dksX3_behind_0 1 rfl rfl)
theorem dX3_behind_2 : decode cX3_behind 2 = .ok (.iadd, 1) := dk_96 (dk_at dksX3_behind_0 2 rfl rfl)
theorem dX3_behind_3 : decode cX3_behind 3 = .ok (.istore 4, 2) := dk_54 4 (dk_at dksX3_behind_0 3 rfl rfl)
theorem dX3_behind_5 : decode cX3_behind 5 = .ok (.iload 4, 2) := dk_21 4 (dk_at dksX3_behind_0 5 rfl rfl)
theorem dX3_behind_7 : decode cX3_behind 7 = .ok (.bipush 18, 2) := dk_16 18 (dk_at dksX3_behind_0 7 rfl rfl)
theorem dX3_behind_9 : decode cX3_behind 9 = .ok (.if_icmp .ge 32, 3) := dk_162 0 32 (dk_at dksX3_behind_0 9 rfl rfl)
theorem dX3_behind_12 : decode cX3_behind 12 = .ok (.aload_n 0, 1) := dk_42 (dk_at dksX3_behind_0 12 rfl rfl)
theorem dX3_behind_13 : decode cX3_behind 13 = .ok (.getfield 28, 3) := dk_180 0 28 (dk_at dksX3_behind_0 13 rfl rfl)
theorem dX3_behind_16 : decode cX3_behind 16 = .ok (.bipush 24, 2) := dk_16 24 (dk_at dksX3_behind_0 16 rfl rfl)
theorem dX3_behind_18 : decode cX3_behind 18 = .ok (.iload_n 1, 1) := dk_27 (dk_at dksX3_behind_0 18 rfl rfl)
theorem dX3_behind_19 : decode cX3_behind 19 = .ok (.imul, 1) := dk_104 (dk_at dksX3_behind_0 19 rfl rfl)
theorem dX3_behind_20 : decode cX3_behind 20 = .ok (.iload_n 2, 1) := dk_28 (dk_at dksX3_behind_0 20 rfl rfl)
theorem dX3_behind_21 : decode cX3_behind 21 = .ok (.iadd, 1) := dk_96 (dk_at dksX3_behind_0 21 rfl rfl)
theorem dX3_behind_22 : decode cX3_behind 22 = .ok (.iaload, 1) := dk_46 (dk_at dksX3_behind_0 22 rfl rfl)
theorem dX3_behind_23 : decode cX3_behind 23 = .ok (.iload 4, 2) := dk_21 4 (dk_at dksX3_behind_1 0 rfl rfl)
theorem dX3_behind_25 : decode cX3_behind 25 = .ok (.ishr, 1) := dk_122 (dk_at dksX3_behind_1 2 rfl rfl)
theorem dX3_behind_26 : decode cX3_behind 26 = .ok (.iconst 1, 1) := dk_4 (dk_at dksX3_behind_1 3 rfl rfl)
theorem dX3_behind_27 : decode cX3_behind 27 = .ok (.iand, 1) := dk_126 (dk_at dksX3_behind_1 4 rfl rfl)
theorem dX3_behind_28 : decode cX3_behind 28 = .ok (.iconst 1, 1) := dk_4 (dk_at dksX3_behind_1 5 rfl rfl)
theorem dX3_behind_29 : decode cX3_behind 29 = .ok (.if_icmp .ne 6, 3) := dk_160 0 6 (dk_at dksX3_behind_1 6 rfl rfl)
theorem dX3_behind_32 : decode cX3_behind 32 = .ok (.iload 4, 2) := dk_21 4 (dk_at dksX3_behind_1 9 rfl rfl)
theorem dX3_behind_34 : decode cX3_behind 34 = .ok (.ireturn, 1) := dk_172 (dk_at dksX3_behind_1 11 rfl rfl)
theorem dX3_behind_35 : decode cX3_behind 35 = .ok (.iinc 4 1, 3) := dk_132 4 1 (dk_at dksX3_behind_1 12 rfl rfl)
theorem dX3_behind_38 : decode cX3_behind 38 = .ok (.goto (-33), 3) := dk_167 255 223 (dk_at dksX3_behind_1 15 rfl rfl)
theorem dX3_behind_41 : decode cX3_behind 41 = .ok (.iconst (-1), 1) := dk_2 (dk_at dksX3_behind_1 18 rfl rfl)
theorem dX3_behind_42 : decode cX3_behind 42 = .ok (.ireturn, 1) := dk_172 (dk_at dksX3_behind_1 19 rfl rfl)
def dkwX3_inCase_4 : List UInt8 := [184, 1, 55, 167, 0, 4, 3, 172]
abbrev dktX3_inCase_4 : List UInt8 := dkwX3_inCase_4 ++ []
def dkwX3_inCase_3 : List UInt8 := [167, 0, 4, 3, 4, 182, 0, 241, 153, 0, 20, 42, 180, 0, 80, 16, 6, 27, 104, 28, 96, 46]
abbrev dktX3_inCase_3 : List UInt8 := dkwX3_inCase_3 ++ dktX3_inCase_4
def dkwX3_inCase_2 : List UInt8 := [180, 1, 11, 42, 180, 0, 74, 182, 1, 92, 42, 27, 155, 0, 15, 27, 42, 180, 1, 75, 162, 0, 7, 4]
abbrev dktX3_inCase_2 : List UInt8 := dkwX3_inCase_2 ++ dktX3_inCase_3
def dkwX3_inCase_1 : List UInt8 := [154, 0, 7, 4, 167, 0, 4, 3, 4, 182, 0, 241, 154, 0, 5, 3, 172, 42, 42, 182, 1, 85, 42]
abbrev dktX3_inCase_1 : List UInt8 := dkwX3_inCase_1 ++ dktX3_inCase_2
def dkwX3_inCase_0 : List UInt8 := [42, 3, 181, 0, 134, 42, 28, 182, 1, 46, 153, 0, 27, 42, 42, 42, 182, 1, 85, 182, 1, 89]
abbrev dktX3_inCase_0 : List UInt8 := dkwX3_inCase_0 ++ dktX3_inCase_1
theorem dksX3_inCase_0 : cX3_inCase.data.toList.drop 0 = dktX3_inCase_0 := by decide +kernel
theorem dksX3_inCase_1 : cX3_inCase.data.toList.drop 22 = dktX3_inCase_1 := dk_seg dksX3_inCase_0 22 rfl rfl
theorem dksX3_inCase_2 : cX3_inCase.data.toList.drop 45 = dktX3_inCase_2 := dk_seg dksX3_inCase_1 23 rfl rfl
theorem dksX3_inCase_3 : cX3_inCase.data.toList.drop 69 = dktX3_inCase_3 := dk_seg dksX3_inCase_2 24 rfl rfl
theorem dksX3_inCase_4 : cX3_inCase.data.toList.drop 91 = dktX3_inCase_4 := dk_seg dksX3_inCase_3 22 rfl rfl
theorem dX3_inCase_0 : decode cX3_inCase 0 = .ok (.aload_n 0, 1) := dk_42 (dk_at dksX3_inCase_0 0 rfl rfl)
theorem dX3_inCase_1 : decode cX3_inCase 1 = .ok (.iconst 0, 1) := dk_3 (dk_at dksX3_inCase_0 1 rfl rfl)
theorem dX3_inCase_2 : decode cX3_inCase 2 = .ok (.putfield 134, 3) := dk_181 0 134 (dk_at dksX3_inCase_0 2 rfl rfl)
theorem dX3_inCase_5 : decode cX3_inCase 5 = .ok (.aload_n 0, 1) := dk_42 (dk_at dksX3_inCase_0 5 rfl rfl)
theorem dX3_inCase_6 : decode cX3_inCase 6 = .ok (.iload_n 2, 1) := dk_28 (dk_at dksX3_inCase_0 6 rfl rfl)
theorem dX3_inCase_7 : decode cX3_inCase 7 = .ok (.invokevirtual 302, 3) := dk_182 1 46 (dk_at dksX3_inCase_0 7 rfl rfl)
theorem dX3_inCase_10 : decode cX3_inCase 10 = .ok (.ifCond .eq 27, 3) := dk_153 0 27 (dk_at dksX3_inCase_0 10 rfl rfl)
theorem dX3_inCase_13 : decode cX3_inCase 13 = .ok (.aload_n 0, 1) := dk_42 (dk_at dksX3_inCase_0 13 rfl rfl)
theorem dX3_inCase_14 : decode cX3_inCase 14 = .ok (.aload_n 0, 1) := dk_42 (dk_at dksX3_inCase_0 14 rfl rfl)
theorem dX3_inCase_15 : decode cX3_inCase 15 = .ok (.aload_n 0, 1) := dk_42 (dk_at dksX3_inCase_0 15 rfl rfl)
theorem dX3_inCase_16 : decode cX3_inCase 16 = .ok (.invokevirtual 341, 3) := dk_182 1 85 (dk_at dksX3_inCase_0 16 rfl rfl)
theorem dX3_inCase_19 : decode cX3_inCase 19 = .ok (.invokevirtual 345, 3) := dk_182 1 89 (dk_at dksX3_inCase_0 19 rfl rfl)
theorem dX3_inCase_22 : decode cX3_inCase 22 = .ok (.ifCond .ne 7, 3) := dk_154 0 7 (dk_at dksX3_inCase_1 0 rfl rfl)
theorem dX3_inCase_25 : decode cX3_inCase 25 = .ok (.iconst 1, 1) := dk_4 (dk_at dksX3_inCase_1 3 rfl rfl)
theorem dX3_inCase_26 : decode cX3_inCase 26 = .ok (.goto 4, 3) := dk_167 0 4 (dk_at dksX3_inCase_1 4 rfl rfl)
theorem dX3_inCase_29 : decode cX3_inCase 29 = .ok (.iconst 0, 1) := dk_3 (dk_at dksX3_inCase_1 7 rfl rfl)
theorem dX3_inCase_30 : decode cX3_inCase 30 = .ok (.iconst 1, 1) := dk_4 (dk_at dksX3_inCase_1 8 rfl rfl)
theorem dX3_inCase_31 : decode cX3_inCase 31 = .ok (.invokevirtual 241, 3) := dk_182 0 241 (dk_at dksX3_inCase_1 9 rfl rfl)
theorem dX3_inCase_34 : decode cX3_inCase 34 = .ok (.ifCond .ne 5, 3) := dk_154 0 5 (dk_at dksX3_inCase_1 12 rfl rfl)
theorem dX3_inCase_37 : decode cX3_inCase 37 = .ok (.iconst 0, 1) := dk_3 (dk_at dksX3_inCase_1 15 rfl rfl)
theorem dX3_inCase_38 : decode cX3_inCase 38 = .ok (.ireturn, 1) := dk_172 (dk_at dksX3_inCase_1 16 rfl rfl)
theorem dX3_inCase_39 : decode cX3_inCase 39 = .ok (.aload_n 0, 1) := dk_42 (dk_at dksX3_inCase_1 17 rfl rfl)
theorem dX3_inCase_40 : decode cX3_inCase 40 = .ok (.aload_n 0, 1) := dk_42 (dk_at dksX3_inCase_1 18 rfl rfl)
theorem dX3_inCase_41 : decode cX3_inCase 41 = .ok (.invokevirtual 341, 3) := dk_182 1 85 (dk_at dksX3_inCase_1 19 rfl rfl)
theorem dX3_inCase_44 : decode cX3_inCase 44 = .ok (.aload_n 0, 1) := dk_42 (dk_at dksX3_inCase_1 22 rfl rfl)
theorem dX3_inCase_45 : decode cX3_inCase 45 = .ok (.getfield 267, 3) := dk_180 1 11 (dk_at dksX3_inCase_2 0 rfl rfl)
theorem dX3_inCase_48 : decode cX3_inCase 48 = .ok (.aload_n 0, 1) := dk_42 (dk_at dksX3_inCase_2 3 rfl rfl)
theorem dX3_inCase_49 : decode cX3_inCase 49 = .ok (.getfield 74, 3) := dk_180 0 74 (dk_at dksX3_inCase_2 4 rfl rfl)
theorem dX3_inCase_52 : decode cX3_inCase 52 = .ok (.invokevirtual 348, 3) := dk_182 1 92 (dk_at dksX3_inCase_2 7 rfl rfl)
theorem dX3_inCase_55 : decode cX3_inCase 55 = .ok (.aload_n 0, 1) := dk_42 (dk_at dksX3_inCase_2 10 rfl rfl)
theorem dX3_inCase_56 : decode cX3_inCase 56 = .ok (.iload_n 1, 1) := dk_27 (dk_at dksX3_inCase_2 11 rfl rfl)
theorem dX3_inCase_57 : decode cX3_inCase 57 = .ok (.ifCond .lt 15, 3) := dk_155 0 15 (dk_at dksX3_inCase_2 12 rfl rfl)
theorem dX3_inCase_60 : decode cX3_inCase 60 = .ok (.iload_n 1, 1) := dk_27 (dk_at dksX3_inCase_2 15 rfl rfl)
theorem dX3_inCase_61 : decode cX3_inCase 61 = .ok (.aload_n 0, 1) := dk_42 (dk_at dksX3_inCase_2 16 rfl rfl)
theorem dX3_inCase_62 : decode cX3_inCase 62 = .ok (.getfield 331, 3) := dk_180 1 75 (dk_at dksX3_inCase_2 17 rfl rfl)
theorem dX3_inCase_65 : decode cX3_inCase 65 = .ok (.if_icmp .ge 7, 3) := dk_162 0 7 (dk_at dksX3_inCase_2 20 rfl rfl)
theorem dX3_inCase_68 : decode cX3_inCase 68 = .ok (.iconst 1, 1) := dk_4 (dk_at dksX3_inCase_2 23 rfl rfl)
theorem dX3_inCase_69 : decode cX3_inCase 69 = .ok (.goto 4, 3) := dk_167 0 4 (dk_at dksX3_inCase_3 0 rfl rfl)
theorem dX3_inCase_72 : decode cX3_inCase 72 = .ok (.iconst 0, 1) := dk_3 (dk_at dksX3_inCase_3 3 rfl rfl)
theorem dX3_inCase_73 : decode cX3_inCase 73 = .ok (.iconst 1, 1) := dk_4 (dk_at dksX3_inCase_3 4 rfl rfl)
theorem dX3_inCase_74 : decode cX3_inCase 74 = .ok (.invokevirtual 241, 3) := dk_182 0 241 (dk_at dksX3_inCase_3 5 rfl rfl)
theorem dX3_inCase_77 : decode cX3_inCase 77 = .ok (.ifCond .eq 20, 3) := dk_153 0 20 (dk_at dksX3_inCase_3 8 rfl rfl)
theorem dX3_inCase_80 : decode cX3_inCase 80 = .ok (.aload_n 0, 1) := dk_42 (dk_at dksX3_inCase_3 11 rfl rfl)
theorem dX3_inCase_81 : decode cX3_inCase 81 = .ok (.getfield 80, 3) := dk_180 0 80 (dk_at dksX3_inCase_3 12 rfl rfl)
theorem dX3_inCase_84 : decode cX3_inCase 84 = .ok (.bipush 6, 2) := dk_16 6 (dk_at dksX3_inCase_3 15 rfl rfl)
theorem dX3_inCase_86 : decode cX3_inCase 86 = .ok (.iload_n 1, 1) := dk_27 (dk_at dksX3_inCase_3 17 rfl rfl)
theorem dX3_inCase_87 : decode cX3_inCase 87 = .ok (.imul, 1) := dk_104 (dk_at dksX3_inCase_3 18 rfl rfl)
theorem dX3_inCase_88 : decode cX3_inCase 88 = .ok (.iload_n 2, 1) := dk_28 (dk_at dksX3_inCase_3 19 rfl rfl)
theorem dX3_inCase_89 : decode cX3_inCase 89 = .ok (.iadd, 1) := dk_96 (dk_at dksX3_inCase_3 20 rfl rfl)
theorem dX3_inCase_90 : decode cX3_inCase 90 = .ok (.iaload, 1) := dk_46 (dk_at dksX3_inCase_3 21 rfl rfl)
theorem dX3_inCase_91 : decode cX3_inCase 91 = .ok (.invokestatic 311, 3) := dk_184 1 55 (dk_at dksX3_inCase_4 0 rfl rfl)
theorem dX3_inCase_94 : decode cX3_inCase 94 = .ok (.goto 4, 3) := dk_167 0 4 (dk_at dksX3_inCase_4 3 rfl rfl)
theorem dX3_inCase_97 : decode cX3_inCase 97 = .ok (.iconst 0, 1) := dk_3 (dk_at dksX3_inCase_4 6 rfl rfl)
theorem dX3_inCase_98 : decode cX3_inCase 98 = .ok (.ireturn, 1) := dk_172 (dk_at dksX3_inCase_4 7 rfl rfl)
def dkwX3_sure_7 : List UInt8 := [132, 5, 1, 167, 255, 153, 27, 5, 160, 0, 7, 29, 167, 0, 4, 28, 172]
abbrev dktX3_sure_7 : List UInt8 := dkwX3_sure_7 ++ []
def dkwX3_sure_6 : List UInt8 := [54, 7, 29, 2, 159, 0, 13, 21, 7, 21, 4, 161, 0, 6, 167, 0, 10, 21, 5, 62, 21, 7, 54, 4]
abbrev dktX3_sure_6 : List UInt8 := dkwX3_sure_6 ++ dktX3_sure_7
def dkwX3_sure_5 : List UInt8 := [21, 6, 42, 180, 1, 75, 21, 6, 100, 164, 0, 8, 21, 6, 167, 0, 10, 42, 180, 1, 75, 21, 6, 100]
abbrev dktX3_sure_5 : List UInt8 := dkwX3_sure_5 ++ dktX3_sure_6
def dkwX3_sure_4 : List UInt8 := [154, 0, 7, 3, 167, 0, 7, 42, 180, 1, 75, 160, 0, 10, 4, 21, 5, 120, 167, 0, 4, 3, 128, 61]
abbrev dktX3_sure_4 : List UInt8 := dkwX3_sure_4 ++ dktX3_sure_5
def dkwX3_sure_3 : List UInt8 := [162, 0, 100, 42, 180, 1, 75, 158, 0, 93, 42, 21, 5, 182, 1, 103, 54, 6, 28, 21, 6, 27]
abbrev dktX3_sure_3 : List UInt8 := dkwX3_sure_3 ++ dktX3_sure_4
def dkwX3_sure_2 : List UInt8 := [180, 0, 74, 182, 1, 92, 3, 61, 2, 62, 3, 54, 4, 3, 54, 5, 21, 5, 42, 180, 0, 248]
abbrev dktX3_sure_2 : List UInt8 := dkwX3_sure_2 ++ dktX3_sure_3
def dkwX3_sure_1 : List UInt8 := [182, 1, 85, 182, 1, 89, 153, 0, 6, 16, 254, 172, 42, 42, 182, 1, 85, 42, 180, 1, 11, 42]
abbrev dktX3_sure_1 : List UInt8 := dkwX3_sure_1 ++ dktX3_sure_2
def dkwX3_sure_0 : List UInt8 := [42, 3, 181, 0, 134, 42, 27, 3, 5, 184, 1, 27, 4, 182, 0, 241, 154, 0, 5, 3, 172, 42, 42]
abbrev dktX3_sure_0 : List UInt8 := dkwX3_sure_0 ++ dktX3_sure_1
theorem dksX3_sure_0 : cX3_sure.data.toList.drop 0 = dktX3_sure_0 := by decide +kernel
theorem dksX3_sure_1 : cX3_sure.data.toList.drop 23 = dktX3_sure_1 := dk_seg dksX3_sure_0 23 rfl rfl
theorem dksX3_sure_2 : cX3_sure.data.toList.drop 45 = dktX3_sure_2 := dk_seg dksX3_sure_1 22 rfl rfl
theorem dksX3_sure_3 : cX3_sure.data.toList.drop 67 = dktX3_sure_3 := dk_seg dksX3_sure_2 22 rfl rfl
theorem dksX3_sure_4 : cX3_sure.data.toList.drop 89 = dktX3_sure_4 := dk_seg dksX3_sure_3 22 rfl rfl
theorem dksX3_sure_5 : cX3_sure.data.toList.drop 113 = dktX3_sure_5 := dk_seg dksX3_sure_4 24 rfl rfl
theorem dksX3_sure_6 : cX3_sure.data.toList.drop 137 = dktX3_sure_6 := dk_seg dksX3_sure_5 24 rfl rfl
theorem dksX3_sure_7 : cX3_sure.data.toList.drop 161 = dktX3_sure_7 := dk_seg dksX3_sure_6 24 rfl rfl
theorem dX3_sure_0 : decode cX3_sure 0 = .ok (.aload_n 0, 1) := dk_42 (dk_at dksX3_sure_0 0 rfl rfl)
theorem dX3_sure_1 : decode cX3_sure 1 = .ok (.iconst 0, 1) := dk_3 (dk_at dksX3_sure_0 1 rfl rfl)
theorem dX3_sure_2 : decode cX3_sure 2 = .ok (.putfield 134, 3) := dk_181 0 134 (dk_at dksX3_sure_0 2 rfl rfl)
theorem dX3_sure_5 : decode cX3_sure 5 = .ok (.aload_n 0, 1) := dk_42 (dk_at dksX3_sure_0 5 rfl rfl)
theorem dX3_sure_6 : decode cX3_sure 6 = .ok (.iload_n 1, 1) := dk_27 (dk_at dksX3_sure_0 6 rfl rfl)
theorem dX3_sure_7 : decode cX3_sure 7 = .ok (.iconst 0, 1) := dk_3 (dk_at dksX3_sure_0 7 rfl rfl)
theorem dX3_sure_8 : decode cX3_sure 8 = .ok (.iconst 2, 1) := dk_5 (dk_at dksX3_sure_0 8 rfl rfl)
theorem dX3_sure_9 : decode cX3_sure 9 = .ok (.invokestatic 283, 3) := dk_184 1 27 (dk_at dksX3_sure_0 9 rfl rfl)
theorem dX3_sure_12 : decode cX3_sure 12 = .ok (.iconst 1, 1) := dk_4 (dk_at dksX3_sure_0 12 rfl rfl)
theorem dX3_sure_13 : decode cX3_sure 13 = .ok (.invokevirtual 241, 3) := dk_182 0 241 (dk_at dksX3_sure_0 13 rfl rfl)
theorem dX3_sure_16 : decode cX3_sure 16 = .ok (.ifCond .ne 5, 3) := dk_154 0 5 (dk_at dksX3_sure_0 16 rfl rfl)
theorem dX3_sure_19 : decode cX3_sure 19 = .ok (.iconst 0, 1) := dk_3 (dk_at dksX3_sure_0 19 rfl rfl)
theorem dX3_sure_20 : decode cX3_sure 20 = .ok (.ireturn, 1) := dk_172 (dk_at dksX3_sure_0 20 rfl rfl)
theorem dX3_sure_21 : decode cX3_sure 21 = .ok (.aload_n 0, 1) := dk_42 (dk_at dksX3_sure_0 21 rfl rfl)
theorem dX3_sure_22 : decode cX3_sure 22 = .ok (.aload_n 0, 1) := dk_42 (dk_at dksX3_sure_0 22 rfl rfl)
theorem dX3_sure_23 : decode cX3_sure 23 = .ok (.invokevirtual 341, 3) := dk_182 1 85 (dk_at dksX3_sure_1 0 rfl rfl)
theorem dX3_sure_26 : decode cX3_sure 26 = .ok (.invokevirtual 345, 3) := dk_182 1 89 (dk_at dksX3_sure_1 3 rfl rfl)
theorem dX3_sure_29 : decode cX3_sure 29 = .ok (.ifCond .eq 6, 3) := dk_153 0 6 (dk_at dksX3_sure_1 6 rfl rfl)
theorem dX3_sure_32 : decode cX3_sure 32 = .ok (.bipush (-2), 2) := dk_16 254 (dk_at dksX3_sure_1 9 rfl rfl)
theorem dX3_sure_34 : decode cX3_sure 34 = .ok (.ireturn, 1) := dk_172 (dk_at dksX3_sure_1 11 rfl rfl)
theorem dX3_sure_35 : decode cX3_sure 35 = .ok (.aload_n 0, 1) := dk_42 (dk_at dksX3_sure_1 12 rfl rfl)
theorem dX3_sure_36 : decode cX3_sure 36 = .ok (.aload_n 0, 1) := dk_42 (dk_at dksX3_sure_1 13 rfl rfl)
theorem dX3_sure_37 : decode cX3_sure 37 = .ok (.invokevirtual 341, 3) := dk_182 1 85 (dk_at dksX3_sure_1 14 rfl rfl)
theorem dX3_sure_40 : decode cX3_sure 40 = .ok (.aload_n 0, 1) := dk_42 (dk_at dksX3_sure_1 17 rfl rfl)
theorem dX3_sure_41 : decode cX3_sure 41 = .ok (.getfield 267, 3) := dk_180 1 11 (dk_at dksX3_sure_1 18 rfl rfl)
theorem dX3_sure_44 : decode cX3_sure 44 = .ok (.aload_n 0, 1) := dk_42 (dk_at dksX3_sure_1 21 rfl rfl)
theorem dX3_sure_45 : decode cX3_sure 45 = .ok (.getfield 74, 3) := dk_180 0 74 (dk_at dksX3_sure_2 0 rfl rfl)
theorem dX3_sure_48 : decode cX3_sure 48 = .ok (.invokevirtual 348, 3) := dk_182 1 92 (dk_at dksX3_sure_2 3 rfl rfl)
theorem dX3_sure_51 : decode cX3_sure 51 = .ok (.iconst 0, 1) := dk_3 (dk_at dksX3_sure_2 6 rfl rfl)
theorem dX3_sure_52 : decode cX3_sure 52 = .ok (.istore_n 2, 1) := dk_61 (dk_at dksX3_sure_2 7 rfl rfl)
theorem dX3_sure_53 : decode cX3_sure 53 = .ok (.iconst (-1), 1) := dk_2 (dk_at dksX3_sure_2 8 rfl rfl)
theorem dX3_sure_54 : decode cX3_sure 54 = .ok (.istore_n 3, 1) := dk_62 (dk_at dksX3_sure_2 9 rfl rfl)
theorem dX3_sure_55 : decode cX3_sure 55 = .ok (.iconst 0, 1) := dk_3 (dk_at dksX3_sure_2 10 rfl rfl)
theorem dX3_sure_56 : decode cX3_sure 56 = .ok (.istore 4, 2) := dk_54 4 (dk_at dksX3_sure_2 11 rfl rfl)
theorem dX3_sure_58 : decode cX3_sure 58 = .ok (.iconst 0, 1) := dk_3 (dk_at dksX3_sure_2 13 rfl rfl)
theorem dX3_sure_59 : decode cX3_sure 59 = .ok (.istore 5, 2) := dk_54 5 (dk_at dksX3_sure_2 14 rfl rfl)
theorem dX3_sure_61 : decode cX3_sure 61 = .ok (.iload 5, 2) := dk_21 5 (dk_at dksX3_sure_2 16 rfl rfl)
theorem dX3_sure_63 : decode cX3_sure 63 = .ok (.aload_n 0, 1) := dk_42 (dk_at dksX3_sure_2 18 rfl rfl)
theorem dX3_sure_64 : decode cX3_sure 64 = .ok (.getfield 248, 3) := dk_180 0 248 (dk_at dksX3_sure_2 19 rfl rfl)
theorem dX3_sure_67 : decode cX3_sure 67 = .ok (.if_icmp .ge 100, 3) := dk_162 0 100 (dk_at dksX3_sure_3 0 rfl rfl)
theorem dX3_sure_70 : decode cX3_sure 70 = .ok (.aload_n 0, 1) := dk_42 (dk_at dksX3_sure_3 3 rfl rfl)
theorem dX3_sure_71 : decode cX3_sure 71 = .ok (.getfield 331, 3) := dk_180 1 75 (dk_at dksX3_sure_3 4 rfl rfl)
theorem dX3_sure_74 : decode cX3_sure 74 = .ok (.ifCond .le 93, 3) := dk_158 0 93 (dk_at dksX3_sure_3 7 rfl rfl)
theorem dX3_sure_77 : decode cX3_sure 77 = .ok (.aload_n 0, 1) := dk_42 (dk_at dksX3_sure_3 10 rfl rfl)
theorem dX3_sure_78 : decode cX3_sure 78 = .ok (.iload 5, 2) := dk_21 5 (dk_at dksX3_sure_3 11 rfl rfl)
theorem dX3_sure_80 : decode cX3_sure 80 = .ok (.invokevirtual 359, 3) := dk_182 1 103 (dk_at dksX3_sure_3 13 rfl rfl)
theorem dX3_sure_83 : decode cX3_sure 83 = .ok (.istore 6, 2) := dk_54 6 (dk_at dksX3_sure_3 16 rfl rfl)
theorem dX3_sure_85 : decode cX3_sure 85 = .ok (.iload_n 2, 1) := dk_28 (dk_at dksX3_sure_3 18 rfl rfl)
theorem dX3_sure_86 : decode cX3_sure 86 = .ok (.iload 6, 2) := dk_21 6 (dk_at dksX3_sure_3 19 rfl rfl)
theorem dX3_sure_88 : decode cX3_sure 88 = .ok (.iload_n 1, 1) := dk_27 (dk_at dksX3_sure_3 21 rfl rfl)
theorem dX3_sure_89 : decode cX3_sure 89 = .ok (.ifCond .ne 7, 3) := dk_154 0 7 (dk_at dksX3_sure_4 0 rfl rfl)
theorem dX3_sure_92 : decode cX3_sure 92 = .ok (.iconst 0, 1) := dk_3 (dk_at dksX3_sure_4 3 rfl rfl)
theorem dX3_sure_93 : decode cX3_sure 93 = .ok (.goto 7, 3) := dk_167 0 7 (dk_at dksX3_sure_4 4 rfl rfl)
theorem dX3_sure_96 : decode cX3_sure 96 = .ok (.aload_n 0, 1) := dk_42 (dk_at dksX3_sure_4 7 rfl rfl)
theorem dX3_sure_97 : decode cX3_sure 97 = .ok (.getfield 331, 3) := dk_180 1 75 (dk_at dksX3_sure_4 8 rfl rfl)
theorem dX3_sure_100 : decode cX3_sure 100 = .ok (.if_icmp .ne 10, 3) := dk_160 0 10 (dk_at dksX3_sure_4 11 rfl rfl)
theorem dX3_sure_103 : decode cX3_sure 103 = .ok (.iconst 1, 1) := dk_4 (dk_at dksX3_sure_4 14 rfl rfl)
theorem dX3_sure_104 : decode cX3_sure 104 = .ok (.iload 5, 2) := dk_21 5 (dk_at dksX3_sure_4 15 rfl rfl)
theorem dX3_sure_106 : decode cX3_sure 106 = .ok (.ishl, 1) := dk_120 (dk_at dksX3_sure_4 17 rfl rfl)
theorem dX3_sure_107 : decode cX3_sure 107 = .ok (.goto 4, 3) := dk_167 0 4 (dk_at dksX3_sure_4 18 rfl rfl)
theorem dX3_sure_110 : decode cX3_sure 110 = .ok (.iconst 0, 1) := dk_3 (dk_at dksX3_sure_4 21 rfl rfl)
theorem dX3_sure_111 : decode cX3_sure 111 = .ok (.ior, 1) := dk_128 (dk_at dksX3_sure_4 22 rfl rfl)
theorem dX3_sure_112 : decode cX3_sure 112 = .ok (.istore_n 2, 1) := dk_61 (dk_at dksX3_sure_4 23 rfl rfl)
theorem dX3_sure_113 : decode cX3_sure 113 = .ok (.iload 6, 2) := dk_21 6 (dk_at dksX3_sure_5 0 rfl rfl)
theorem dX3_sure_115 : decode cX3_sure 115 = .ok (.aload_n 0, 1) := dk_42 (dk_at dksX3_sure_5 2 rfl rfl)
theorem dX3_sure_116 : decode cX3_sure 116 = .ok (.getfield 331, 3) := dk_180 1 75 (dk_at dksX3_sure_5 3 rfl rfl)
theorem dX3_sure_119 : decode cX3_sure 119 = .ok (.iload 6, 2) := dk_21 6 (dk_at dksX3_sure_5 6 rfl rfl)
theorem dX3_sure_121 : decode cX3_sure 121 = .ok (.isub, 1) := dk_100 (dk_at dksX3_sure_5 8 rfl rfl)
theorem dX3_sure_122 : decode cX3_sure 122 = .ok (.if_icmp .le 8, 3) := dk_164 0 8 (dk_at dksX3_sure_5 9 rfl rfl)
theorem dX3_sure_125 : decode cX3_sure 125 = .ok (.iload 6, 2) := dk_21 6 (dk_at dksX3_sure_5 12 rfl rfl)
theorem dX3_sure_127 : decode cX3_sure 127 = .ok (.goto 10, 3) := dk_167 0 10 (dk_at dksX3_sure_5 14 rfl rfl)
theorem dX3_sure_130 : decode cX3_sure 130 = .ok (.aload_n 0, 1) := dk_42 (dk_at dksX3_sure_5 17 rfl rfl)
theorem dX3_sure_131 : decode cX3_sure 131 = .ok (.getfield 331, 3) := dk_180 1 75 (dk_at dksX3_sure_5 18 rfl rfl)
theorem dX3_sure_134 : decode cX3_sure 134 = .ok (.iload 6, 2) := dk_21 6 (dk_at dksX3_sure_5 21 rfl rfl)
theorem dX3_sure_136 : decode cX3_sure 136 = .ok (.isub, 1) := dk_100 (dk_at dksX3_sure_5 23 rfl rfl)
theorem dX3_sure_137 : decode cX3_sure 137 = .ok (.istore 7, 2) := dk_54 7 (dk_at dksX3_sure_6 0 rfl rfl)
theorem dX3_sure_139 : decode cX3_sure 139 = .ok (.iload_n 3, 1) := dk_29 (dk_at dksX3_sure_6 2 rfl rfl)
theorem dX3_sure_140 : decode cX3_sure 140 = .ok (.iconst (-1), 1) := dk_2 (dk_at dksX3_sure_6 3 rfl rfl)
theorem dX3_sure_141 : decode cX3_sure 141 = .ok (.if_icmp .eq 13, 3) := dk_159 0 13 (dk_at dksX3_sure_6 4 rfl rfl)
theorem dX3_sure_144 : decode cX3_sure 144 = .ok (.iload 7, 2) := dk_21 7 (dk_at dksX3_sure_6 7 rfl rfl)
theorem dX3_sure_146 : decode cX3_sure 146 = .ok (.iload 4, 2) := dk_21 4 (dk_at dksX3_sure_6 9 rfl rfl)
theorem dX3_sure_148 : decode cX3_sure 148 = .ok (.if_icmp .lt 6, 3) := dk_161 0 6 (dk_at dksX3_sure_6 11 rfl rfl)
theorem dX3_sure_151 : decode cX3_sure 151 = .ok (.goto 10, 3) := dk_167 0 10 (dk_at dksX3_sure_6 14 rfl rfl)
theorem dX3_sure_154 : decode cX3_sure 154 = .ok (.iload 5, 2) := dk_21 5 (dk_at dksX3_sure_6 17 rfl rfl)
theorem dX3_sure_156 : decode cX3_sure 156 = .ok (.istore_n 3, 1) := dk_62 (dk_at dksX3_sure_6 19 rfl rfl)
theorem dX3_sure_157 : decode cX3_sure 157 = .ok (.iload 7, 2) := dk_21 7 (dk_at dksX3_sure_6 20 rfl rfl)
theorem dX3_sure_159 : decode cX3_sure 159 = .ok (.istore 4, 2) := dk_54 4 (dk_at dksX3_sure_6 22 rfl rfl)
theorem dX3_sure_161 : decode cX3_sure 161 = .ok (.iinc 5 1, 3) := dk_132 5 1 (dk_at dksX3_sure_7 0 rfl rfl)
theorem dX3_sure_164 : decode cX3_sure 164 = .ok (.goto (-103), 3) := dk_167 255 153 (dk_at dksX3_sure_7 3 rfl rfl)
theorem dX3_sure_167 : decode cX3_sure 167 = .ok (.iload_n 1, 1) := dk_27 (dk_at dksX3_sure_7 6 rfl rfl)
theorem dX3_sure_168 : decode cX3_sure 168 = .ok (.iconst 2, 1) := dk_5 (dk_at dksX3_sure_7 7 rfl rfl)
theorem dX3_sure_169 : decode cX3_sure 169 = .ok (.if_icmp .ne 7, 3) := dk_160 0 7 (dk_at dksX3_sure_7 8 rfl rfl)
theorem dX3_sure_172 : decode cX3_sure 172 = .ok (.iload_n 3, 1) := dk_29 (dk_at dksX3_sure_7 11 rfl rfl)
theorem dX3_sure_173 : decode cX3_sure 173 = .ok (.goto 4, 3) := dk_167 0 4 (dk_at dksX3_sure_7 12 rfl rfl)
theorem dX3_sure_176 : decode cX3_sure 176 = .ok (.iload_n 2, 1) := dk_28 (dk_at dksX3_sure_7 15 rfl rfl)
theorem dX3_sure_177 : decode cX3_sure 177 = .ok (.ireturn, 1) := dk_172 (dk_at dksX3_sure_7 16 rfl rfl)
def dkwX3_with_1 : List UInt8 := [167, 0, 4, 3, 96, 61, 132, 3, 1, 167, 255, 228, 28, 172]
abbrev dktX3_with_1 : List UInt8 := dkwX3_with_1 ++ []
def dkwX3_with_0 : List UInt8 := [3, 61, 3, 62, 29, 42, 180, 1, 75, 162, 0, 26, 28, 42, 29, 27, 182, 1, 99, 153, 0, 7, 4]
abbrev dktX3_with_0 : List UInt8 := dkwX3_with_0 ++ dktX3_with_1
theorem dksX3_with_0 : cX3_with.data.toList.drop 0 = dktX3_with_0 := by decide +kernel
theorem dksX3_with_1 : cX3_with.data.toList.drop 23 = dktX3_with_1 := dk_seg dksX3_with_0 23 rfl rfl
theorem dX3_with_0 : decode cX3_with 0 = .ok (.iconst 0, 1) := dk_3 (dk_at dksX3_with_0 0 rfl rfl)
theorem dX3_with_1 : decode cX3_with 1 = .ok (.istore_n 2, 1) := dk_61 (dk_at dksX3_with_0 1 rfl rfl)
theorem dX3_with_2 : decode cX3_with 2 = .ok (.iconst 0, 1) := dk_3 (dk_at dksX3_with_0 2 rfl rfl)
theorem dX3_with_3 : decode cX3_with 3 = .ok (.istore_n 3, 1) := dk_62 (dk_at dksX3_with_0 3 rfl rfl)
theorem dX3_with_4 : decode cX3_with 4 = .ok (.iload_n 3, 1) := dk_29 (dk_at dksX3_with_0 4 rfl rfl)
theorem dX3_with_5 : decode cX3_with 5 = .ok (.aload_n 0, 1) := dk_42 (dk_at dksX3_with_0 5 rfl rfl)
theorem dX3_with_6 : decode cX3_with 6 = .ok (.getfield 331, 3) := dk_180 1 75 (dk_at dksX3_with_0 6 rfl rfl)
theorem dX3_with_9 : decode cX3_with 9 = .ok (.if_icmp .ge 26, 3) := dk_162 0 26 (dk_at dksX3_with_0 9 rfl rfl)
theorem dX3_with_12 : decode cX3_with 12 = .ok (.iload_n 2, 1) := dk_28 (dk_at dksX3_with_0 12 rfl rfl)
theorem dX3_with_13 : decode cX3_with 13 = .ok (.aload_n 0, 1) := dk_42 (dk_at dksX3_with_0 13 rfl rfl)
theorem dX3_with_14 : decode cX3_with 14 = .ok (.iload_n 3, 1) := dk_29 (dk_at dksX3_with_0 14 rfl rfl)
theorem dX3_with_15 : decode cX3_with 15 = .ok (.iload_n 1, 1) := dk_27 (dk_at dksX3_with_0 15 rfl rfl)
theorem dX3_with_16 : decode cX3_with 16 = .ok (.invokevirtual 355, 3) := dk_182 1 99 (dk_at dksX3_with_0 16 rfl rfl)
theorem dX3_with_19 : decode cX3_with 19 = .ok (.ifCond .eq 7, 3) := dk_153 0 7 (dk_at dksX3_with_0 19 rfl rfl)
theorem dX3_with_22 : decode cX3_with 22 = .ok (.iconst 1, 1) := dk_4 (dk_at dksX3_with_0 22 rfl rfl)
theorem dX3_with_23 : decode cX3_with 23 = .ok (.goto 4, 3) := dk_167 0 4 (dk_at dksX3_with_1 0 rfl rfl)
theorem dX3_with_26 : decode cX3_with 26 = .ok (.iconst 0, 1) := dk_3 (dk_at dksX3_with_1 3 rfl rfl)
theorem dX3_with_27 : decode cX3_with 27 = .ok (.iadd, 1) := dk_96 (dk_at dksX3_with_1 4 rfl rfl)
theorem dX3_with_28 : decode cX3_with 28 = .ok (.istore_n 2, 1) := dk_61 (dk_at dksX3_with_1 5 rfl rfl)
theorem dX3_with_29 : decode cX3_with 29 = .ok (.iinc 3 1, 3) := dk_132 3 1 (dk_at dksX3_with_1 6 rfl rfl)
theorem dX3_with_32 : decode cX3_with 32 = .ok (.goto (-28), 3) := dk_167 255 228 (dk_at dksX3_with_1 9 rfl rfl)
theorem dX3_with_35 : decode cX3_with 35 = .ok (.iload_n 2, 1) := dk_28 (dk_at dksX3_with_1 12 rfl rfl)
theorem dX3_with_36 : decode cX3_with 36 = .ok (.ireturn, 1) := dk_172 (dk_at dksX3_with_1 13 rfl rfl)
def dkwX3_isSomebody_1 : List UInt8 := [182, 1, 96, 28, 160, 0, 5, 4, 172, 132, 3, 1, 167, 255, 223, 3, 172]
abbrev dktX3_isSomebody_1 : List UInt8 := dkwX3_isSomebody_1 ++ []
def dkwX3_isSomebody_0 : List UInt8 := [3, 62, 29, 42, 180, 0, 251, 162, 0, 31, 42, 29, 42, 180, 0, 80, 16, 6, 27, 104, 29, 96, 46]
abbrev dktX3_isSomebody_0 : List UInt8 := dkwX3_isSomebody_0 ++ dktX3_isSomebody_1
theorem dksX3_isSomebody_0 : cX3_isSomebody.data.toList.drop 0 = dktX3_isSomebody_0 := by decide +kernel
theorem dksX3_isSomebody_1 : cX3_isSomebody.data.toList.drop 23 = dktX3_isSomebody_1 := dk_seg dksX3_isSomebody_0 23 rfl rfl
theorem dX3_isSomebody_0 : decode cX3_isSomebody 0 = .ok (.iconst 0, 1) := dk_3 (dk_at dksX3_isSomebody_0 0 rfl rfl)
theorem dX3_isSomebody_1 : decode cX3_isSomebody 1 = .ok (.istore_n 3, 1) := dk_62 (dk_at dksX3_isSomebody_0 1 rfl rfl)
theorem dX3_isSomebody_2 : decode cX3_isSomebody 2 = .ok (.iload_n 3, 1) := dk_29 (dk_at dksX3_isSomebody_0 2 rfl rfl)
theorem dX3_isSomebody_3 : decode cX3_isSomebody 3 = .ok (.aload_n 0, 1) := dk_42 (dk_at dksX3_isSomebody_0 3 rfl rfl)
theorem dX3_isSomebody_4 : decode cX3_isSomebody 4 = .ok (.getfield 251, 3) := dk_180 0 251 (dk_at dksX3_isSomebody_0 4 rfl rfl)
theorem dX3_isSomebody_7 : decode cX3_isSomebody 7 = .ok (.if_icmp .ge 31, 3) := dk_162 0 31 (dk_at dksX3_isSomebody_0 7 rfl rfl)
theorem dX3_isSomebody_10 : decode cX3_isSomebody 10 = .ok (.aload_n 0, 1) := dk_42 (dk_at dksX3_isSomebody_0 10 rfl rfl)
theorem dX3_isSomebody_11 : decode cX3_isSomebody 11 = .ok (.iload_n 3, 1) := dk_29 (dk_at dksX3_isSomebody_0 11 rfl rfl)
theorem dX3_isSomebody_12 : decode cX3_isSomebody 12 = .ok (.aload_n 0, 1) := dk_42 (dk_at dksX3_isSomebody_0 12 rfl rfl)
theorem dX3_isSomebody_13 : decode cX3_isSomebody 13 = .ok (.getfield 80, 3) := dk_180 0 80 (dk_at dksX3_isSomebody_0 13 rfl rfl)
theorem dX3_isSomebody_16 : decode cX3_isSomebody 16 = .ok (.bipush 6, 2) := dk_16 6 (dk_at dksX3_isSomebody_0 16 rfl rfl)
theorem dX3_isSomebody_18 : decode cX3_isSomebody 18 = .ok (.iload_n 1, 1) := dk_27 (dk_at dksX3_isSomebody_0 18 rfl rfl)
theorem dX3_isSomebody_19 : decode cX3_isSomebody 19 = .ok (.imul, 1) := dk_104 (dk_at dksX3_isSomebody_0 19 rfl rfl)
theorem dX3_isSomebody_20 : decode cX3_isSomebody 20 = .ok (.iload_n 3, 1) := dk_29 (dk_at dksX3_isSomebody_0 20 rfl rfl)
theorem dX3_isSomebody_21 : decode cX3_isSomebody 21 = .ok (.iadd, 1) := dk_96 (dk_at dksX3_isSomebody_0 21 rfl rfl)
theorem dX3_isSomebody_22 : decode cX3_isSomebody 22 = .ok (.iaload, 1) := dk_46 (dk_at dksX3_isSomebody_0 22 rfl rfl)
theorem dX3_isSomebody_23 : decode cX3_isSomebody 23 = .ok (.invokevirtual 352, 3) := dk_182 1 96 (dk_at dksX3_isSomebody_1 0 rfl rfl)
theorem dX3_isSomebody_26 : decode cX3_isSomebody 26 = .ok (.iload_n 2, 1) := dk_28 (dk_at dksX3_isSomebody_1 3 rfl rfl)
theorem dX3_isSomebody_27 : decode cX3_isSomebody 27 = .ok (.if_icmp .ne 5, 3) := dk_160 0 5 (dk_at dksX3_isSomebody_1 4 rfl rfl)
theorem dX3_isSomebody_30 : decode cX3_isSomebody 30 = .ok (.iconst 1, 1) := dk_4 (dk_at dksX3_isSomebody_1 7 rfl rfl)
theorem dX3_isSomebody_31 : decode cX3_isSomebody 31 = .ok (.ireturn, 1) := dk_172 (dk_at dksX3_isSomebody_1 8 rfl rfl)
theorem dX3_isSomebody_32 : decode cX3_isSomebody 32 = .ok (.iinc 3 1, 3) := dk_132 3 1 (dk_at dksX3_isSomebody_1 9 rfl rfl)
theorem dX3_isSomebody_35 : decode cX3_isSomebody 35 = .ok (.goto (-33), 3) := dk_167 255 223 (dk_at dksX3_isSomebody_1 12 rfl rfl)
theorem dX3_isSomebody_38 : decode cX3_isSomebody 38 = .ok (.iconst 0, 1) := dk_3 (dk_at dksX3_isSomebody_1 15 rfl rfl)
theorem dX3_isSomebody_39 : decode cX3_isSomebody 39 = .ok (.ireturn, 1) := dk_172 (dk_at dksX3_isSomebody_1 16 rfl rfl)
def dkwX3_roomOf_1 : List UInt8 := [100, 172]
abbrev dktX3_roomOf_1 : List UInt8 := dkwX3_roomOf_1 ++ []
def dkwX3_roomOf_0 : List UInt8 := [28, 154, 0, 7, 2, 167, 0, 20, 28, 7, 162, 0, 12, 42, 180, 0, 16, 27, 46, 167, 0, 6, 28, 7]
abbrev dktX3_roomOf_0 : List UInt8 := dkwX3_roomOf_0 ++ dktX3_roomOf_1
theorem dksX3_roomOf_0 : cX3_roomOf.data.toList.drop 0 = dktX3_roomOf_0 := by decide +kernel
theorem dksX3_roomOf_1 : cX3_roomOf.data.toList.drop 24 = dktX3_roomOf_1 := dk_seg dksX3_roomOf_0 24 rfl rfl
theorem dX3_roomOf_0 : decode cX3_roomOf 0 = .ok (.iload_n 2, 1) := dk_28 (dk_at dksX3_roomOf_0 0 rfl rfl)
theorem dX3_roomOf_1 : decode cX3_roomOf 1 = .ok (.ifCond .ne 7, 3) := dk_154 0 7 (dk_at dksX3_roomOf_0 1 rfl rfl)
theorem dX3_roomOf_4 : decode cX3_roomOf 4 = .ok (.iconst (-1), 1) := dk_2 (dk_at dksX3_roomOf_0 4 rfl rfl)
theorem dX3_roomOf_5 : decode cX3_roomOf 5 = .ok (.goto 20, 3) := dk_167 0 20 (dk_at dksX3_roomOf_0 5 rfl rfl)
theorem dX3_roomOf_8 : decode cX3_roomOf 8 = .ok (.iload_n 2, 1) := dk_28 (dk_at dksX3_roomOf_0 8 rfl rfl)
theorem dX3_roomOf_9 : decode cX3_roomOf 9 = .ok (.iconst 4, 1) := dk_7 (dk_at dksX3_roomOf_0 9 rfl rfl)
theorem dX3_roomOf_10 : decode cX3_roomOf 10 = .ok (.if_icmp .ge 12, 3) := dk_162 0 12 (dk_at dksX3_roomOf_0 10 rfl rfl)
theorem dX3_roomOf_13 : decode cX3_roomOf 13 = .ok (.aload_n 0, 1) := dk_42 (dk_at dksX3_roomOf_0 13 rfl rfl)
theorem dX3_roomOf_14 : decode cX3_roomOf 14 = .ok (.getfield 16, 3) := dk_180 0 16 (dk_at dksX3_roomOf_0 14 rfl rfl)
theorem dX3_roomOf_17 : decode cX3_roomOf 17 = .ok (.iload_n 1, 1) := dk_27 (dk_at dksX3_roomOf_0 17 rfl rfl)
theorem dX3_roomOf_18 : decode cX3_roomOf 18 = .ok (.iaload, 1) := dk_46 (dk_at dksX3_roomOf_0 18 rfl rfl)
theorem dX3_roomOf_19 : decode cX3_roomOf 19 = .ok (.goto 6, 3) := dk_167 0 6 (dk_at dksX3_roomOf_0 19 rfl rfl)
theorem dX3_roomOf_22 : decode cX3_roomOf 22 = .ok (.iload_n 2, 1) := dk_28 (dk_at dksX3_roomOf_0 22 rfl rfl)
theorem dX3_roomOf_23 : decode cX3_roomOf 23 = .ok (.iconst 4, 1) := dk_7 (dk_at dksX3_roomOf_0 23 rfl rfl)
theorem dX3_roomOf_24 : decode cX3_roomOf 24 = .ok (.isub, 1) := dk_100 (dk_at dksX3_roomOf_1 0 rfl rfl)
theorem dX3_roomOf_25 : decode cX3_roomOf 25 = .ok (.ireturn, 1) := dk_172 (dk_at dksX3_roomOf_1 1 rfl rfl)
def dkwX3_where_4 : List UInt8 := [132, 3, 1, 167, 255, 210, 28, 172]
abbrev dktX3_where_4 : List UInt8 := dkwX3_where_4 ++ []
def dkwX3_where_3 : List UInt8 := [182, 1, 96, 54, 4, 28, 21, 4, 2, 160, 0, 7, 3, 167, 0, 7, 4, 21, 4, 120, 128, 61]
abbrev dktX3_where_3 : List UInt8 := dkwX3_where_3 ++ dktX3_where_4
def dkwX3_where_2 : List UInt8 := [3, 62, 29, 42, 180, 1, 75, 162, 0, 44, 42, 27, 42, 180, 0, 80, 16, 6, 29, 104, 27, 96, 46]
abbrev dktX3_where_2 : List UInt8 := dkwX3_where_2 ++ dktX3_where_3
def dkwX3_where_1 : List UInt8 := [153, 0, 6, 16, 254, 172, 42, 42, 182, 1, 85, 42, 180, 1, 11, 42, 180, 0, 74, 182, 1, 92, 3, 61]
abbrev dktX3_where_1 : List UInt8 := dkwX3_where_1 ++ dktX3_where_2
def dkwX3_where_0 : List UInt8 := [42, 3, 181, 0, 134, 42, 27, 182, 1, 46, 154, 0, 5, 3, 172, 42, 42, 182, 1, 85, 182, 1, 89]
abbrev dktX3_where_0 : List UInt8 := dkwX3_where_0 ++ dktX3_where_1
theorem dksX3_where_0 : cX3_where.data.toList.drop 0 = dktX3_where_0 := by decide +kernel
theorem dksX3_where_1 : cX3_where.data.toList.drop 23 = dktX3_where_1 := dk_seg dksX3_where_0 23 rfl rfl
theorem dksX3_where_2 : cX3_where.data.toList.drop 47 = dktX3_where_2 := dk_seg dksX3_where_1 24 rfl rfl
theorem dksX3_where_3 : cX3_where.data.toList.drop 70 = dktX3_where_3 := dk_seg dksX3_where_2 23 rfl rfl
theorem dksX3_where_4 : cX3_where.data.toList.drop 92 = dktX3_where_4 := dk_seg dksX3_where_3 22 rfl rfl
theorem dX3_where_0 : decode cX3_where 0 = .ok (.aload_n 0, 1) := dk_42 (dk_at dksX3_where_0 0 rfl rfl)
theorem dX3_where_1 : decode cX3_where 1 = .ok (.iconst 0, 1) := dk_3 (dk_at dksX3_where_0 1 rfl rfl)
theorem dX3_where_2 : decode cX3_where 2 = .ok (.putfield 134, 3) := dk_181 0 134 (dk_at dksX3_where_0 2 rfl rfl)
theorem dX3_where_5 : decode cX3_where 5 = .ok (.aload_n 0, 1) := dk_42 (dk_at dksX3_where_0 5 rfl rfl)
theorem dX3_where_6 : decode cX3_where 6 = .ok (.iload_n 1, 1) := dk_27 (dk_at dksX3_where_0 6 rfl rfl)
theorem dX3_where_7 : decode cX3_where 7 = .ok (.invokevirtual 302, 3) := dk_182 1 46 (dk_at dksX3_where_0 7 rfl rfl)
theorem dX3_where_10 : decode cX3_where 10 = .ok (.ifCond .ne 5, 3) := dk_154 0 5 (dk_at dksX3_where_0 10 rfl rfl)
theorem dX3_where_13 : decode cX3_where 13 = .ok (.iconst 0, 1) := dk_3 (dk_at dksX3_where_0 13 rfl rfl)
theorem dX3_where_14 : decode cX3_where 14 = .ok (.ireturn, 1) := dk_172 (dk_at dksX3_where_0 14 rfl rfl)
theorem dX3_where_15 : decode cX3_where 15 = .ok (.aload_n 0, 1) := dk_42 (dk_at dksX3_where_0 15 rfl rfl)
theorem dX3_where_16 : decode cX3_where 16 = .ok (.aload_n 0, 1) := dk_42 (dk_at dksX3_where_0 16 rfl rfl)
theorem dX3_where_17 : decode cX3_where 17 = .ok (.invokevirtual 341, 3) := dk_182 1 85 (dk_at dksX3_where_0 17 rfl rfl)
theorem dX3_where_20 : decode cX3_where 20 = .ok (.invokevirtual 345, 3) := dk_182 1 89 (dk_at dksX3_where_0 20 rfl rfl)
theorem dX3_where_23 : decode cX3_where 23 = .ok (.ifCond .eq 6, 3) := dk_153 0 6 (dk_at dksX3_where_1 0 rfl rfl)
theorem dX3_where_26 : decode cX3_where 26 = .ok (.bipush (-2), 2) := dk_16 254 (dk_at dksX3_where_1 3 rfl rfl)
theorem dX3_where_28 : decode cX3_where 28 = .ok (.ireturn, 1) := dk_172 (dk_at dksX3_where_1 5 rfl rfl)
theorem dX3_where_29 : decode cX3_where 29 = .ok (.aload_n 0, 1) := dk_42 (dk_at dksX3_where_1 6 rfl rfl)
theorem dX3_where_30 : decode cX3_where 30 = .ok (.aload_n 0, 1) := dk_42 (dk_at dksX3_where_1 7 rfl rfl)
theorem dX3_where_31 : decode cX3_where 31 = .ok (.invokevirtual 341, 3) := dk_182 1 85 (dk_at dksX3_where_1 8 rfl rfl)
theorem dX3_where_34 : decode cX3_where 34 = .ok (.aload_n 0, 1) := dk_42 (dk_at dksX3_where_1 11 rfl rfl)
theorem dX3_where_35 : decode cX3_where 35 = .ok (.getfield 267, 3) := dk_180 1 11 (dk_at dksX3_where_1 12 rfl rfl)
theorem dX3_where_38 : decode cX3_where 38 = .ok (.aload_n 0, 1) := dk_42 (dk_at dksX3_where_1 15 rfl rfl)
theorem dX3_where_39 : decode cX3_where 39 = .ok (.getfield 74, 3) := dk_180 0 74 (dk_at dksX3_where_1 16 rfl rfl)
theorem dX3_where_42 : decode cX3_where 42 = .ok (.invokevirtual 348, 3) := dk_182 1 92 (dk_at dksX3_where_1 19 rfl rfl)
theorem dX3_where_45 : decode cX3_where 45 = .ok (.iconst 0, 1) := dk_3 (dk_at dksX3_where_1 22 rfl rfl)
theorem dX3_where_46 : decode cX3_where 46 = .ok (.istore_n 2, 1) := dk_61 (dk_at dksX3_where_1 23 rfl rfl)
theorem dX3_where_47 : decode cX3_where 47 = .ok (.iconst 0, 1) := dk_3 (dk_at dksX3_where_2 0 rfl rfl)
theorem dX3_where_48 : decode cX3_where 48 = .ok (.istore_n 3, 1) := dk_62 (dk_at dksX3_where_2 1 rfl rfl)
theorem dX3_where_49 : decode cX3_where 49 = .ok (.iload_n 3, 1) := dk_29 (dk_at dksX3_where_2 2 rfl rfl)
theorem dX3_where_50 : decode cX3_where 50 = .ok (.aload_n 0, 1) := dk_42 (dk_at dksX3_where_2 3 rfl rfl)
theorem dX3_where_51 : decode cX3_where 51 = .ok (.getfield 331, 3) := dk_180 1 75 (dk_at dksX3_where_2 4 rfl rfl)
theorem dX3_where_54 : decode cX3_where 54 = .ok (.if_icmp .ge 44, 3) := dk_162 0 44 (dk_at dksX3_where_2 7 rfl rfl)
theorem dX3_where_57 : decode cX3_where 57 = .ok (.aload_n 0, 1) := dk_42 (dk_at dksX3_where_2 10 rfl rfl)
theorem dX3_where_58 : decode cX3_where 58 = .ok (.iload_n 1, 1) := dk_27 (dk_at dksX3_where_2 11 rfl rfl)
theorem dX3_where_59 : decode cX3_where 59 = .ok (.aload_n 0, 1) := dk_42 (dk_at dksX3_where_2 12 rfl rfl)
theorem dX3_where_60 : decode cX3_where 60 = .ok (.getfield 80, 3) := dk_180 0 80 (dk_at dksX3_where_2 13 rfl rfl)
theorem dX3_where_63 : decode cX3_where 63 = .ok (.bipush 6, 2) := dk_16 6 (dk_at dksX3_where_2 16 rfl rfl)
theorem dX3_where_65 : decode cX3_where 65 = .ok (.iload_n 3, 1) := dk_29 (dk_at dksX3_where_2 18 rfl rfl)
theorem dX3_where_66 : decode cX3_where 66 = .ok (.imul, 1) := dk_104 (dk_at dksX3_where_2 19 rfl rfl)
theorem dX3_where_67 : decode cX3_where 67 = .ok (.iload_n 1, 1) := dk_27 (dk_at dksX3_where_2 20 rfl rfl)
theorem dX3_where_68 : decode cX3_where 68 = .ok (.iadd, 1) := dk_96 (dk_at dksX3_where_2 21 rfl rfl)
theorem dX3_where_69 : decode cX3_where 69 = .ok (.iaload, 1) := dk_46 (dk_at dksX3_where_2 22 rfl rfl)
theorem dX3_where_70 : decode cX3_where 70 = .ok (.invokevirtual 352, 3) := dk_182 1 96 (dk_at dksX3_where_3 0 rfl rfl)
theorem dX3_where_73 : decode cX3_where 73 = .ok (.istore 4, 2) := dk_54 4 (dk_at dksX3_where_3 3 rfl rfl)
theorem dX3_where_75 : decode cX3_where 75 = .ok (.iload_n 2, 1) := dk_28 (dk_at dksX3_where_3 5 rfl rfl)
theorem dX3_where_76 : decode cX3_where 76 = .ok (.iload 4, 2) := dk_21 4 (dk_at dksX3_where_3 6 rfl rfl)
theorem dX3_where_78 : decode cX3_where 78 = .ok (.iconst (-1), 1) := dk_2 (dk_at dksX3_where_3 8 rfl rfl)
theorem dX3_where_79 : decode cX3_where 79 = .ok (.if_icmp .ne 7, 3) := dk_160 0 7 (dk_at dksX3_where_3 9 rfl rfl)
theorem dX3_where_82 : decode cX3_where 82 = .ok (.iconst 0, 1) := dk_3 (dk_at dksX3_where_3 12 rfl rfl)
theorem dX3_where_83 : decode cX3_where 83 = .ok (.goto 7, 3) := dk_167 0 7 (dk_at dksX3_where_3 13 rfl rfl)
theorem dX3_where_86 : decode cX3_where 86 = .ok (.iconst 1, 1) := dk_4 (dk_at dksX3_where_3 16 rfl rfl)
theorem dX3_where_87 : decode cX3_where 87 = .ok (.iload 4, 2) := dk_21 4 (dk_at dksX3_where_3 17 rfl rfl)
theorem dX3_where_89 : decode cX3_where 89 = .ok (.ishl, 1) := dk_120 (dk_at dksX3_where_3 19 rfl rfl)
theorem dX3_where_90 : decode cX3_where 90 = .ok (.ior, 1) := dk_128 (dk_at dksX3_where_3 20 rfl rfl)
theorem dX3_where_91 : decode cX3_where 91 = .ok (.istore_n 2, 1) := dk_61 (dk_at dksX3_where_3 21 rfl rfl)
theorem dX3_where_92 : decode cX3_where 92 = .ok (.iinc 3 1, 3) := dk_132 3 1 (dk_at dksX3_where_4 0 rfl rfl)
theorem dX3_where_95 : decode cX3_where 95 = .ok (.goto (-46), 3) := dk_167 255 210 (dk_at dksX3_where_4 3 rfl rfl)
theorem dX3_where_98 : decode cX3_where 98 = .ok (.iload_n 2, 1) := dk_28 (dk_at dksX3_where_4 6 rfl rfl)
theorem dX3_where_99 : decode cX3_where 99 = .ok (.ireturn, 1) := dk_172 (dk_at dksX3_where_4 7 rfl rfl)
def dkwX3_misled_6 : List UInt8 := [21, 4, 167, 0, 8, 21, 4, 184, 1, 52, 172]
abbrev dktX3_misled_6 : List UInt8 := dkwX3_misled_6 ++ []
def dkwX3_misled_5 : List UInt8 := [153, 0, 7, 21, 5, 54, 4, 132, 5, 1, 167, 255, 208, 21, 4, 2, 159, 0, 8, 29, 4, 160, 0, 8]
abbrev dktX3_misled_5 : List UInt8 := dkwX3_misled_5 ++ dktX3_misled_6
def dkwX3_misled_4 : List UInt8 := [159, 0, 16, 21, 5, 184, 1, 52, 21, 4, 184, 1, 52, 162, 0, 18, 42, 27, 28, 21, 5, 182, 1, 112]
abbrev dktX3_misled_4 : List UInt8 := dkwX3_misled_4 ++ dktX3_misled_5
def dkwX3_misled_3 : List UInt8 := [167, 255, 230, 2, 54, 4, 3, 54, 5, 21, 5, 4, 42, 180, 0, 251, 120, 162, 0, 43, 21, 4, 2]
abbrev dktX3_misled_3 : List UInt8 := dkwX3_misled_3 ++ dktX3_misled_4
def dkwX3_misled_2 : List UInt8 := [42, 180, 0, 248, 162, 0, 23, 42, 180, 0, 86, 21, 4, 42, 21, 4, 28, 182, 1, 65, 79, 132, 4, 1]
abbrev dktX3_misled_2 : List UInt8 := dkwX3_misled_2 ++ dktX3_misled_3
def dkwX3_misled_1 : List UInt8 := [182, 1, 34, 154, 0, 5, 3, 172, 42, 28, 182, 1, 89, 153, 0, 6, 16, 254, 172, 3, 54, 4, 21, 4]
abbrev dktX3_misled_1 : List UInt8 := dkwX3_misled_1 ++ dktX3_misled_2
def dkwX3_misled_0 : List UInt8 := [42, 3, 181, 0, 134, 42, 27, 182, 1, 31, 153, 0, 19, 42, 28, 182, 1, 49, 153, 0, 11, 42, 29]
abbrev dktX3_misled_0 : List UInt8 := dkwX3_misled_0 ++ dktX3_misled_1
theorem dksX3_misled_0 : cX3_misled.data.toList.drop 0 = dktX3_misled_0 := by decide +kernel
theorem dksX3_misled_1 : cX3_misled.data.toList.drop 23 = dktX3_misled_1 := dk_seg dksX3_misled_0 23 rfl rfl
theorem dksX3_misled_2 : cX3_misled.data.toList.drop 47 = dktX3_misled_2 := dk_seg dksX3_misled_1 24 rfl rfl
theorem dksX3_misled_3 : cX3_misled.data.toList.drop 71 = dktX3_misled_3 := dk_seg dksX3_misled_2 24 rfl rfl
theorem dksX3_misled_4 : cX3_misled.data.toList.drop 94 = dktX3_misled_4 := dk_seg dksX3_misled_3 23 rfl rfl
theorem dksX3_misled_5 : cX3_misled.data.toList.drop 118 = dktX3_misled_5 := dk_seg dksX3_misled_4 24 rfl rfl
theorem dksX3_misled_6 : cX3_misled.data.toList.drop 142 = dktX3_misled_6 := dk_seg dksX3_misled_5 24 rfl rfl
theorem dX3_misled_0 : decode cX3_misled 0 = .ok (.aload_n 0, 1) := dk_42 (dk_at dksX3_misled_0 0 rfl rfl)
theorem dX3_misled_1 : decode cX3_misled 1 = .ok (.iconst 0, 1) := dk_3 (dk_at dksX3_misled_0 1 rfl rfl)
theorem dX3_misled_2 : decode cX3_misled 2 = .ok (.putfield 134, 3) := dk_181 0 134 (dk_at dksX3_misled_0 2 rfl rfl)
theorem dX3_misled_5 : decode cX3_misled 5 = .ok (.aload_n 0, 1) := dk_42 (dk_at dksX3_misled_0 5 rfl rfl)
theorem dX3_misled_6 : decode cX3_misled 6 = .ok (.iload_n 1, 1) := dk_27 (dk_at dksX3_misled_0 6 rfl rfl)
theorem dX3_misled_7 : decode cX3_misled 7 = .ok (.invokevirtual 287, 3) := dk_182 1 31 (dk_at dksX3_misled_0 7 rfl rfl)
theorem dX3_misled_10 : decode cX3_misled 10 = .ok (.ifCond .eq 19, 3) := dk_153 0 19 (dk_at dksX3_misled_0 10 rfl rfl)
theorem dX3_misled_13 : decode cX3_misled 13 = .ok (.aload_n 0, 1) := dk_42 (dk_at dksX3_misled_0 13 rfl rfl)
theorem dX3_misled_14 : decode cX3_misled 14 = .ok (.iload_n 2, 1) := dk_28 (dk_at dksX3_misled_0 14 rfl rfl)
theorem dX3_misled_15 : decode cX3_misled 15 = .ok (.invokevirtual 305, 3) := dk_182 1 49 (dk_at dksX3_misled_0 15 rfl rfl)
theorem dX3_misled_18 : decode cX3_misled 18 = .ok (.ifCond .eq 11, 3) := dk_153 0 11 (dk_at dksX3_misled_0 18 rfl rfl)
theorem dX3_misled_21 : decode cX3_misled 21 = .ok (.aload_n 0, 1) := dk_42 (dk_at dksX3_misled_0 21 rfl rfl)
theorem dX3_misled_22 : decode cX3_misled 22 = .ok (.iload_n 3, 1) := dk_29 (dk_at dksX3_misled_0 22 rfl rfl)
theorem dX3_misled_23 : decode cX3_misled 23 = .ok (.invokevirtual 290, 3) := dk_182 1 34 (dk_at dksX3_misled_1 0 rfl rfl)
theorem dX3_misled_26 : decode cX3_misled 26 = .ok (.ifCond .ne 5, 3) := dk_154 0 5 (dk_at dksX3_misled_1 3 rfl rfl)
theorem dX3_misled_29 : decode cX3_misled 29 = .ok (.iconst 0, 1) := dk_3 (dk_at dksX3_misled_1 6 rfl rfl)
theorem dX3_misled_30 : decode cX3_misled 30 = .ok (.ireturn, 1) := dk_172 (dk_at dksX3_misled_1 7 rfl rfl)
theorem dX3_misled_31 : decode cX3_misled 31 = .ok (.aload_n 0, 1) := dk_42 (dk_at dksX3_misled_1 8 rfl rfl)
theorem dX3_misled_32 : decode cX3_misled 32 = .ok (.iload_n 2, 1) := dk_28 (dk_at dksX3_misled_1 9 rfl rfl)
theorem dX3_misled_33 : decode cX3_misled 33 = .ok (.invokevirtual 345, 3) := dk_182 1 89 (dk_at dksX3_misled_1 10 rfl rfl)
theorem dX3_misled_36 : decode cX3_misled 36 = .ok (.ifCond .eq 6, 3) := dk_153 0 6 (dk_at dksX3_misled_1 13 rfl rfl)
theorem dX3_misled_39 : decode cX3_misled 39 = .ok (.bipush (-2), 2) := dk_16 254 (dk_at dksX3_misled_1 16 rfl rfl)
theorem dX3_misled_41 : decode cX3_misled 41 = .ok (.ireturn, 1) := dk_172 (dk_at dksX3_misled_1 18 rfl rfl)
theorem dX3_misled_42 : decode cX3_misled 42 = .ok (.iconst 0, 1) := dk_3 (dk_at dksX3_misled_1 19 rfl rfl)
theorem dX3_misled_43 : decode cX3_misled 43 = .ok (.istore 4, 2) := dk_54 4 (dk_at dksX3_misled_1 20 rfl rfl)
theorem dX3_misled_45 : decode cX3_misled 45 = .ok (.iload 4, 2) := dk_21 4 (dk_at dksX3_misled_1 22 rfl rfl)
theorem dX3_misled_47 : decode cX3_misled 47 = .ok (.aload_n 0, 1) := dk_42 (dk_at dksX3_misled_2 0 rfl rfl)
theorem dX3_misled_48 : decode cX3_misled 48 = .ok (.getfield 248, 3) := dk_180 0 248 (dk_at dksX3_misled_2 1 rfl rfl)
theorem dX3_misled_51 : decode cX3_misled 51 = .ok (.if_icmp .ge 23, 3) := dk_162 0 23 (dk_at dksX3_misled_2 4 rfl rfl)
theorem dX3_misled_54 : decode cX3_misled 54 = .ok (.aload_n 0, 1) := dk_42 (dk_at dksX3_misled_2 7 rfl rfl)
theorem dX3_misled_55 : decode cX3_misled 55 = .ok (.getfield 86, 3) := dk_180 0 86 (dk_at dksX3_misled_2 8 rfl rfl)
theorem dX3_misled_58 : decode cX3_misled 58 = .ok (.iload 4, 2) := dk_21 4 (dk_at dksX3_misled_2 11 rfl rfl)
theorem dX3_misled_60 : decode cX3_misled 60 = .ok (.aload_n 0, 1) := dk_42 (dk_at dksX3_misled_2 13 rfl rfl)
theorem dX3_misled_61 : decode cX3_misled 61 = .ok (.iload 4, 2) := dk_21 4 (dk_at dksX3_misled_2 14 rfl rfl)
theorem dX3_misled_63 : decode cX3_misled 63 = .ok (.iload_n 2, 1) := dk_28 (dk_at dksX3_misled_2 16 rfl rfl)
theorem dX3_misled_64 : decode cX3_misled 64 = .ok (.invokevirtual 321, 3) := dk_182 1 65 (dk_at dksX3_misled_2 17 rfl rfl)
theorem dX3_misled_67 : decode cX3_misled 67 = .ok (.iastore, 1) := dk_79 (dk_at dksX3_misled_2 20 rfl rfl)
theorem dX3_misled_68 : decode cX3_misled 68 = .ok (.iinc 4 1, 3) := dk_132 4 1 (dk_at dksX3_misled_2 21 rfl rfl)
theorem dX3_misled_71 : decode cX3_misled 71 = .ok (.goto (-26), 3) := dk_167 255 230 (dk_at dksX3_misled_3 0 rfl rfl)
theorem dX3_misled_74 : decode cX3_misled 74 = .ok (.iconst (-1), 1) := dk_2 (dk_at dksX3_misled_3 3 rfl rfl)
theorem dX3_misled_75 : decode cX3_misled 75 = .ok (.istore 4, 2) := dk_54 4 (dk_at dksX3_misled_3 4 rfl rfl)
theorem dX3_misled_77 : decode cX3_misled 77 = .ok (.iconst 0, 1) := dk_3 (dk_at dksX3_misled_3 6 rfl rfl)
theorem dX3_misled_78 : decode cX3_misled 78 = .ok (.istore 5, 2) := dk_54 5 (dk_at dksX3_misled_3 7 rfl rfl)
theorem dX3_misled_80 : decode cX3_misled 80 = .ok (.iload 5, 2) := dk_21 5 (dk_at dksX3_misled_3 9 rfl rfl)
theorem dX3_misled_82 : decode cX3_misled 82 = .ok (.iconst 1, 1) := dk_4 (dk_at dksX3_misled_3 11 rfl rfl)
theorem dX3_misled_83 : decode cX3_misled 83 = .ok (.aload_n 0, 1) := dk_42 (dk_at dksX3_misled_3 12 rfl rfl)
theorem dX3_misled_84 : decode cX3_misled 84 = .ok (.getfield 251, 3) := dk_180 0 251 (dk_at dksX3_misled_3 13 rfl rfl)
theorem dX3_misled_87 : decode cX3_misled 87 = .ok (.ishl, 1) := dk_120 (dk_at dksX3_misled_3 16 rfl rfl)
theorem dX3_misled_88 : decode cX3_misled 88 = .ok (.if_icmp .ge 43, 3) := dk_162 0 43 (dk_at dksX3_misled_3 17 rfl rfl)
theorem dX3_misled_91 : decode cX3_misled 91 = .ok (.iload 4, 2) := dk_21 4 (dk_at dksX3_misled_3 20 rfl rfl)
theorem dX3_misled_93 : decode cX3_misled 93 = .ok (.iconst (-1), 1) := dk_2 (dk_at dksX3_misled_3 22 rfl rfl)
theorem dX3_misled_94 : decode cX3_misled 94 = .ok (.if_icmp .eq 16, 3) := dk_159 0 16 (dk_at dksX3_misled_4 0 rfl rfl)
theorem dX3_misled_97 : decode cX3_misled 97 = .ok (.iload 5, 2) := dk_21 5 (dk_at dksX3_misled_4 3 rfl rfl)
theorem dX3_misled_99 : decode cX3_misled 99 = .ok (.invokestatic 308, 3) := dk_184 1 52 (dk_at dksX3_misled_4 5 rfl rfl)
theorem dX3_misled_102 : decode cX3_misled 102 = .ok (.iload 4, 2) := dk_21 4 (dk_at dksX3_misled_4 8 rfl rfl)
theorem dX3_misled_104 : decode cX3_misled 104 = .ok (.invokestatic 308, 3) := dk_184 1 52 (dk_at dksX3_misled_4 10 rfl rfl)
theorem dX3_misled_107 : decode cX3_misled 107 = .ok (.if_icmp .ge 18, 3) := dk_162 0 18 (dk_at dksX3_misled_4 13 rfl rfl)
theorem dX3_misled_110 : decode cX3_misled 110 = .ok (.aload_n 0, 1) := dk_42 (dk_at dksX3_misled_4 16 rfl rfl)
theorem dX3_misled_111 : decode cX3_misled 111 = .ok (.iload_n 1, 1) := dk_27 (dk_at dksX3_misled_4 17 rfl rfl)
theorem dX3_misled_112 : decode cX3_misled 112 = .ok (.iload_n 2, 1) := dk_28 (dk_at dksX3_misled_4 18 rfl rfl)
theorem dX3_misled_113 : decode cX3_misled 113 = .ok (.iload 5, 2) := dk_21 5 (dk_at dksX3_misled_4 19 rfl rfl)
theorem dX3_misled_115 : decode cX3_misled 115 = .ok (.invokevirtual 368, 3) := dk_182 1 112 (dk_at dksX3_misled_4 21 rfl rfl)
theorem dX3_misled_118 : decode cX3_misled 118 = .ok (.ifCond .eq 7, 3) := dk_153 0 7 (dk_at dksX3_misled_5 0 rfl rfl)
theorem dX3_misled_121 : decode cX3_misled 121 = .ok (.iload 5, 2) := dk_21 5 (dk_at dksX3_misled_5 3 rfl rfl)
theorem dX3_misled_123 : decode cX3_misled 123 = .ok (.istore 4, 2) := dk_54 4 (dk_at dksX3_misled_5 5 rfl rfl)
theorem dX3_misled_125 : decode cX3_misled 125 = .ok (.iinc 5 1, 3) := dk_132 5 1 (dk_at dksX3_misled_5 7 rfl rfl)
theorem dX3_misled_128 : decode cX3_misled 128 = .ok (.goto (-48), 3) := dk_167 255 208 (dk_at dksX3_misled_5 10 rfl rfl)
theorem dX3_misled_131 : decode cX3_misled 131 = .ok (.iload 4, 2) := dk_21 4 (dk_at dksX3_misled_5 13 rfl rfl)
theorem dX3_misled_133 : decode cX3_misled 133 = .ok (.iconst (-1), 1) := dk_2 (dk_at dksX3_misled_5 15 rfl rfl)
theorem dX3_misled_134 : decode cX3_misled 134 = .ok (.if_icmp .eq 8, 3) := dk_159 0 8 (dk_at dksX3_misled_5 16 rfl rfl)
theorem dX3_misled_137 : decode cX3_misled 137 = .ok (.iload_n 3, 1) := dk_29 (dk_at dksX3_misled_5 19 rfl rfl)
theorem dX3_misled_138 : decode cX3_misled 138 = .ok (.iconst 1, 1) := dk_4 (dk_at dksX3_misled_5 20 rfl rfl)
theorem dX3_misled_139 : decode cX3_misled 139 = .ok (.if_icmp .ne 8, 3) := dk_160 0 8 (dk_at dksX3_misled_5 21 rfl rfl)
theorem dX3_misled_142 : decode cX3_misled 142 = .ok (.iload 4, 2) := dk_21 4 (dk_at dksX3_misled_6 0 rfl rfl)
theorem dX3_misled_144 : decode cX3_misled 144 = .ok (.goto 8, 3) := dk_167 0 8 (dk_at dksX3_misled_6 2 rfl rfl)
theorem dX3_misled_147 : decode cX3_misled 147 = .ok (.iload 4, 2) := dk_21 4 (dk_at dksX3_misled_6 5 rfl rfl)
theorem dX3_misled_149 : decode cX3_misled 149 = .ok (.invokestatic 308, 3) := dk_184 1 52 (dk_at dksX3_misled_6 7 rfl rfl)
theorem dX3_misled_152 : decode cX3_misled 152 = .ok (.ireturn, 1) := dk_172 (dk_at dksX3_misled_6 10 rfl rfl)
def dkwX3_misleads_5 : List UInt8 := [180, 1, 75, 162, 0, 5, 4, 172, 42, 29, 182, 1, 109, 54, 4, 167, 255, 204, 3, 172]
abbrev dktX3_misleads_5 : List UInt8 := dkwX3_misleads_5 ++ []
def dkwX3_misleads_4 : List UInt8 := [100, 42, 180, 0, 83, 182, 1, 92, 42, 27, 182, 1, 103, 54, 5, 21, 5, 158, 0, 14, 21, 5, 42]
abbrev dktX3_misleads_4 : List UInt8 := dkwX3_misleads_4 ++ dktX3_misleads_5
def dkwX3_misleads_3 : List UInt8 := [172, 132, 4, 1, 167, 255, 195, 4, 54, 4, 21, 4, 153, 0, 53, 42, 28, 4, 42, 180, 0, 248, 120, 4]
abbrev dktX3_misleads_3 : List UInt8 := dkwX3_misleads_3 ++ dktX3_misleads_4
def dkwX3_misleads_2 : List UInt8 := [21, 4, 2, 182, 1, 106, 79, 42, 180, 0, 83, 42, 180, 0, 16, 21, 4, 46, 46, 2, 160, 0, 5, 3]
abbrev dktX3_misleads_2 : List UInt8 := dkwX3_misleads_2 ++ dktX3_misleads_3
def dkwX3_misleads_1 : List UInt8 := [29, 21, 4, 122, 4, 126, 154, 0, 6, 167, 0, 40, 42, 180, 0, 83, 42, 180, 0, 16, 21, 4, 46, 42]
abbrev dktX3_misleads_1 : List UInt8 := dkwX3_misleads_1 ++ dktX3_misleads_2
def dkwX3_misleads_0 : List UInt8 := [42, 42, 180, 0, 86, 42, 180, 0, 83, 182, 1, 4, 3, 54, 4, 21, 4, 42, 180, 0, 251, 162, 0, 58]
abbrev dktX3_misleads_0 : List UInt8 := dkwX3_misleads_0 ++ dktX3_misleads_1
theorem dksX3_misleads_0 : cX3_misleads.data.toList.drop 0 = dktX3_misleads_0 := by decide +kernel
theorem dksX3_misleads_1 : cX3_misleads.data.toList.drop 24 = dktX3_misleads_1 := dk_seg dksX3_misleads_0 24 rfl rfl
theorem dksX3_misleads_2 : cX3_misleads.data.toList.drop 48 = dktX3_misleads_2 := dk_seg dksX3_misleads_1 24 rfl rfl
theorem dksX3_misleads_3 : cX3_misleads.data.toList.drop 72 = dktX3_misleads_3 := dk_seg dksX3_misleads_2 24 rfl rfl
theorem dksX3_misleads_4 : cX3_misleads.data.toList.drop 96 = dktX3_misleads_4 := dk_seg dksX3_misleads_3 24 rfl rfl
theorem dksX3_misleads_5 : cX3_misleads.data.toList.drop 119 = dktX3_misleads_5 := dk_seg dksX3_misleads_4 23 rfl rfl
theorem dX3_misleads_0 : decode cX3_misleads 0 = .ok (.aload_n 0, 1) := dk_42 (dk_at dksX3_misleads_0 0 rfl rfl)
theorem dX3_misleads_1 : decode cX3_misleads 1 = .ok (.aload_n 0, 1) := dk_42 (dk_at dksX3_misleads_0 1 rfl rfl)
theorem dX3_misleads_2 : decode cX3_misleads 2 = .ok (.getfield 86, 3) := dk_180 0 86 (dk_at dksX3_misleads_0 2 rfl rfl)
theorem dX3_misleads_5 : decode cX3_misleads 5 = .ok (.aload_n 0, 1) := dk_42 (dk_at dksX3_misleads_0 5 rfl rfl)
theorem dX3_misleads_6 : decode cX3_misleads 6 = .ok (.getfield 83, 3) := dk_180 0 83 (dk_at dksX3_misleads_0 6 rfl rfl)
theorem dX3_misleads_9 : decode cX3_misleads 9 = .ok (.invokevirtual 260, 3) := dk_182 1 4 (dk_at dksX3_misleads_0 9 rfl rfl)
theorem dX3_misleads_12 : decode cX3_misleads 12 = .ok (.iconst 0, 1) := dk_3 (dk_at dksX3_misleads_0 12 rfl rfl)
theorem dX3_misleads_13 : decode cX3_misleads 13 = .ok (.istore 4, 2) := dk_54 4 (dk_at dksX3_misleads_0 13 rfl rfl)
theorem dX3_misleads_15 : decode cX3_misleads 15 = .ok (.iload 4, 2) := dk_21 4 (dk_at dksX3_misleads_0 15 rfl rfl)
theorem dX3_misleads_17 : decode cX3_misleads 17 = .ok (.aload_n 0, 1) := dk_42 (dk_at dksX3_misleads_0 17 rfl rfl)
theorem dX3_misleads_18 : decode cX3_misleads 18 = .ok (.getfield 251, 3) := dk_180 0 251 (dk_at dksX3_misleads_0 18 rfl rfl)
theorem dX3_misleads_21 : decode cX3_misleads 21 = .ok (.if_icmp .ge 58, 3) := dk_162 0 58 (dk_at dksX3_misleads_0 21 rfl rfl)
theorem dX3_misleads_24 : decode cX3_misleads 24 = .ok (.iload_n 3, 1) := dk_29 (dk_at dksX3_misleads_1 0 rfl rfl)
theorem dX3_misleads_25 : decode cX3_misleads 25 = .ok (.iload 4, 2) := dk_21 4 (dk_at dksX3_misleads_1 1 rfl rfl)
theorem dX3_misleads_27 : decode cX3_misleads 27 = .ok (.ishr, 1) := dk_122 (dk_at dksX3_misleads_1 3 rfl rfl)
theorem dX3_misleads_28 : decode cX3_misleads 28 = .ok (.iconst 1, 1) := dk_4 (dk_at dksX3_misleads_1 4 rfl rfl)
theorem dX3_misleads_29 : decode cX3_misleads 29 = .ok (.iand, 1) := dk_126 (dk_at dksX3_misleads_1 5 rfl rfl)
theorem dX3_misleads_30 : decode cX3_misleads 30 = .ok (.ifCond .ne 6, 3) := dk_154 0 6 (dk_at dksX3_misleads_1 6 rfl rfl)
theorem dX3_misleads_33 : decode cX3_misleads 33 = .ok (.goto 40, 3) := dk_167 0 40 (dk_at dksX3_misleads_1 9 rfl rfl)
theorem dX3_misleads_36 : decode cX3_misleads 36 = .ok (.aload_n 0, 1) := dk_42 (dk_at dksX3_misleads_1 12 rfl rfl)
theorem dX3_misleads_37 : decode cX3_misleads 37 = .ok (.getfield 83, 3) := dk_180 0 83 (dk_at dksX3_misleads_1 13 rfl rfl)
theorem dX3_misleads_40 : decode cX3_misleads 40 = .ok (.aload_n 0, 1) := dk_42 (dk_at dksX3_misleads_1 16 rfl rfl)
theorem dX3_misleads_41 : decode cX3_misleads 41 = .ok (.getfield 16, 3) := dk_180 0 16 (dk_at dksX3_misleads_1 17 rfl rfl)
theorem dX3_misleads_44 : decode cX3_misleads 44 = .ok (.iload 4, 2) := dk_21 4 (dk_at dksX3_misleads_1 20 rfl rfl)
theorem dX3_misleads_46 : decode cX3_misleads 46 = .ok (.iaload, 1) := dk_46 (dk_at dksX3_misleads_1 22 rfl rfl)
theorem dX3_misleads_47 : decode cX3_misleads 47 = .ok (.aload_n 0, 1) := dk_42 (dk_at dksX3_misleads_1 23 rfl rfl)
theorem dX3_misleads_48 : decode cX3_misleads 48 = .ok (.iload 4, 2) := dk_21 4 (dk_at dksX3_misleads_2 0 rfl rfl)
theorem dX3_misleads_50 : decode cX3_misleads 50 = .ok (.iconst (-1), 1) := dk_2 (dk_at dksX3_misleads_2 2 rfl rfl)
theorem dX3_misleads_51 : decode cX3_misleads 51 = .ok (.invokevirtual 362, 3) := dk_182 1 106 (dk_at dksX3_misleads_2 3 rfl rfl)
theorem dX3_misleads_54 : decode cX3_misleads 54 = .ok (.iastore, 1) := dk_79 (dk_at dksX3_misleads_2 6 rfl rfl)
theorem dX3_misleads_55 : decode cX3_misleads 55 = .ok (.aload_n 0, 1) := dk_42 (dk_at dksX3_misleads_2 7 rfl rfl)
theorem dX3_misleads_56 : decode cX3_misleads 56 = .ok (.getfield 83, 3) := dk_180 0 83 (dk_at dksX3_misleads_2 8 rfl rfl)
theorem dX3_misleads_59 : decode cX3_misleads 59 = .ok (.aload_n 0, 1) := dk_42 (dk_at dksX3_misleads_2 11 rfl rfl)
theorem dX3_misleads_60 : decode cX3_misleads 60 = .ok (.getfield 16, 3) := dk_180 0 16 (dk_at dksX3_misleads_2 12 rfl rfl)
theorem dX3_misleads_63 : decode cX3_misleads 63 = .ok (.iload 4, 2) := dk_21 4 (dk_at dksX3_misleads_2 15 rfl rfl)
theorem dX3_misleads_65 : decode cX3_misleads 65 = .ok (.iaload, 1) := dk_46 (dk_at dksX3_misleads_2 17 rfl rfl)
theorem dX3_misleads_66 : decode cX3_misleads 66 = .ok (.iaload, 1) := dk_46 (dk_at dksX3_misleads_2 18 rfl rfl)
theorem dX3_misleads_67 : decode cX3_misleads 67 = .ok (.iconst (-1), 1) := dk_2 (dk_at dksX3_misleads_2 19 rfl rfl)
theorem dX3_misleads_68 : decode cX3_misleads 68 = .ok (.if_icmp .ne 5, 3) := dk_160 0 5 (dk_at dksX3_misleads_2 20 rfl rfl)
theorem dX3_misleads_71 : decode cX3_misleads 71 = .ok (.iconst 0, 1) := dk_3 (dk_at dksX3_misleads_2 23 rfl rfl)
theorem dX3_misleads_72 : decode cX3_misleads 72 = .ok (.ireturn, 1) := dk_172 (dk_at dksX3_misleads_3 0 rfl rfl)
theorem dX3_misleads_73 : decode cX3_misleads 73 = .ok (.iinc 4 1, 3) := dk_132 4 1 (dk_at dksX3_misleads_3 1 rfl rfl)
theorem dX3_misleads_76 : decode cX3_misleads 76 = .ok (.goto (-61), 3) := dk_167 255 195 (dk_at dksX3_misleads_3 4 rfl rfl)
theorem dX3_misleads_79 : decode cX3_misleads 79 = .ok (.iconst 1, 1) := dk_4 (dk_at dksX3_misleads_3 7 rfl rfl)
theorem dX3_misleads_80 : decode cX3_misleads 80 = .ok (.istore 4, 2) := dk_54 4 (dk_at dksX3_misleads_3 8 rfl rfl)
theorem dX3_misleads_82 : decode cX3_misleads 82 = .ok (.iload 4, 2) := dk_21 4 (dk_at dksX3_misleads_3 10 rfl rfl)
theorem dX3_misleads_84 : decode cX3_misleads 84 = .ok (.ifCond .eq 53, 3) := dk_153 0 53 (dk_at dksX3_misleads_3 12 rfl rfl)
theorem dX3_misleads_87 : decode cX3_misleads 87 = .ok (.aload_n 0, 1) := dk_42 (dk_at dksX3_misleads_3 15 rfl rfl)
theorem dX3_misleads_88 : decode cX3_misleads 88 = .ok (.iload_n 2, 1) := dk_28 (dk_at dksX3_misleads_3 16 rfl rfl)
theorem dX3_misleads_89 : decode cX3_misleads 89 = .ok (.iconst 1, 1) := dk_4 (dk_at dksX3_misleads_3 17 rfl rfl)
theorem dX3_misleads_90 : decode cX3_misleads 90 = .ok (.aload_n 0, 1) := dk_42 (dk_at dksX3_misleads_3 18 rfl rfl)
theorem dX3_misleads_91 : decode cX3_misleads 91 = .ok (.getfield 248, 3) := dk_180 0 248 (dk_at dksX3_misleads_3 19 rfl rfl)
theorem dX3_misleads_94 : decode cX3_misleads 94 = .ok (.ishl, 1) := dk_120 (dk_at dksX3_misleads_3 22 rfl rfl)
theorem dX3_misleads_95 : decode cX3_misleads 95 = .ok (.iconst 1, 1) := dk_4 (dk_at dksX3_misleads_3 23 rfl rfl)
theorem dX3_misleads_96 : decode cX3_misleads 96 = .ok (.isub, 1) := dk_100 (dk_at dksX3_misleads_4 0 rfl rfl)
theorem dX3_misleads_97 : decode cX3_misleads 97 = .ok (.aload_n 0, 1) := dk_42 (dk_at dksX3_misleads_4 1 rfl rfl)
theorem dX3_misleads_98 : decode cX3_misleads 98 = .ok (.getfield 83, 3) := dk_180 0 83 (dk_at dksX3_misleads_4 2 rfl rfl)
theorem dX3_misleads_101 : decode cX3_misleads 101 = .ok (.invokevirtual 348, 3) := dk_182 1 92 (dk_at dksX3_misleads_4 5 rfl rfl)
theorem dX3_misleads_104 : decode cX3_misleads 104 = .ok (.aload_n 0, 1) := dk_42 (dk_at dksX3_misleads_4 8 rfl rfl)
theorem dX3_misleads_105 : decode cX3_misleads 105 = .ok (.iload_n 1, 1) := dk_27 (dk_at dksX3_misleads_4 9 rfl rfl)
theorem dX3_misleads_106 : decode cX3_misleads 106 = .ok (.invokevirtual 359, 3) := dk_182 1 103 (dk_at dksX3_misleads_4 10 rfl rfl)
theorem dX3_misleads_109 : decode cX3_misleads 109 = .ok (.istore 5, 2) := dk_54 5 (dk_at dksX3_misleads_4 13 rfl rfl)
theorem dX3_misleads_111 : decode cX3_misleads 111 = .ok (.iload 5, 2) := dk_21 5 (dk_at dksX3_misleads_4 15 rfl rfl)
theorem dX3_misleads_113 : decode cX3_misleads 113 = .ok (.ifCond .le 14, 3) := dk_158 0 14 (dk_at dksX3_misleads_4 17 rfl rfl)
theorem dX3_misleads_116 : decode cX3_misleads 116 = .ok (.iload 5, 2) := dk_21 5 (dk_at dksX3_misleads_4 20 rfl rfl)
theorem dX3_misleads_118 : decode cX3_misleads 118 = .ok (.aload_n 0, 1) := dk_42 (dk_at dksX3_misleads_4 22 rfl rfl)
theorem dX3_misleads_119 : decode cX3_misleads 119 = .ok (.getfield 331, 3) := dk_180 1 75 (dk_at dksX3_misleads_5 0 rfl rfl)
theorem dX3_misleads_122 : decode cX3_misleads 122 = .ok (.if_icmp .ge 5, 3) := dk_162 0 5 (dk_at dksX3_misleads_5 3 rfl rfl)
theorem dX3_misleads_125 : decode cX3_misleads 125 = .ok (.iconst 1, 1) := dk_4 (dk_at dksX3_misleads_5 6 rfl rfl)
theorem dX3_misleads_126 : decode cX3_misleads 126 = .ok (.ireturn, 1) := dk_172 (dk_at dksX3_misleads_5 7 rfl rfl)
theorem dX3_misleads_127 : decode cX3_misleads 127 = .ok (.aload_n 0, 1) := dk_42 (dk_at dksX3_misleads_5 8 rfl rfl)
theorem dX3_misleads_128 : decode cX3_misleads 128 = .ok (.iload_n 3, 1) := dk_29 (dk_at dksX3_misleads_5 9 rfl rfl)
theorem dX3_misleads_129 : decode cX3_misleads 129 = .ok (.invokevirtual 365, 3) := dk_182 1 109 (dk_at dksX3_misleads_5 10 rfl rfl)
theorem dX3_misleads_132 : decode cX3_misleads 132 = .ok (.istore 4, 2) := dk_54 4 (dk_at dksX3_misleads_5 13 rfl rfl)
theorem dX3_misleads_134 : decode cX3_misleads 134 = .ok (.goto (-52), 3) := dk_167 255 204 (dk_at dksX3_misleads_5 15 rfl rfl)
theorem dX3_misleads_137 : decode cX3_misleads 137 = .ok (.iconst 0, 1) := dk_3 (dk_at dksX3_misleads_5 18 rfl rfl)
theorem dX3_misleads_138 : decode cX3_misleads 138 = .ok (.ireturn, 1) := dk_172 (dk_at dksX3_misleads_5 19 rfl rfl)
def dkwX3_another_1 : List UInt8 := [180, 0, 86, 42, 180, 0, 16, 27, 46, 46, 159, 0, 5, 29, 172, 132, 3, 1, 167, 255, 219, 2, 172]
abbrev dktX3_another_1 : List UInt8 := dkwX3_another_1 ++ []
def dkwX3_another_0 : List UInt8 := [28, 4, 96, 62, 29, 7, 162, 0, 38, 29, 42, 27, 182, 1, 43, 2, 130, 126, 154, 0, 20, 29, 42]
abbrev dktX3_another_0 : List UInt8 := dkwX3_another_0 ++ dktX3_another_1
theorem dksX3_another_0 : cX3_another.data.toList.drop 0 = dktX3_another_0 := by decide +kernel
theorem dksX3_another_1 : cX3_another.data.toList.drop 23 = dktX3_another_1 := dk_seg dksX3_another_0 23 rfl rfl
theorem dX3_another_0 : decode cX3_another 0 = .ok (.iload_n 2, 1) := dk_28 (dk_at dksX3_another_0 0 rfl rfl)
theorem dX3_another_1 : decode cX3_another 1 = .ok (.iconst 1, 1) := dk_4 (dk_at dksX3_another_0 1 rfl rfl)
theorem dX3_another_2 : decode cX3_another 2 = .ok (.iadd, 1) := dk_96 (dk_at dksX3_another_0 2 rfl rfl)
theorem dX3_another_3 : decode cX3_another 3 = .ok (.istore_n 3, 1) := dk_62 (dk_at dksX3_another_0 3 rfl rfl)
theorem dX3_another_4 : decode cX3_another 4 = .ok (.iload_n 3, 1) := dk_29 (dk_at dksX3_another_0 4 rfl rfl)
theorem dX3_another_5 : decode cX3_another 5 = .ok (.iconst 4, 1) := dk_7 (dk_at dksX3_another_0 5 rfl rfl)
theorem dX3_another_6 : decode cX3_another 6 = .ok (.if_icmp .ge 38, 3) := dk_162 0 38 (dk_at dksX3_another_0 6 rfl rfl)
theorem dX3_another_9 : decode cX3_another 9 = .ok (.iload_n 3, 1) := dk_29 (dk_at dksX3_another_0 9 rfl rfl)
theorem dX3_another_10 : decode cX3_another 10 = .ok (.aload_n 0, 1) := dk_42 (dk_at dksX3_another_0 10 rfl rfl)
theorem dX3_another_11 : decode cX3_another 11 = .ok (.iload_n 1, 1) := dk_27 (dk_at dksX3_another_0 11 rfl rfl)
theorem dX3_another_12 : decode cX3_another 12 = .ok (.invokevirtual 299, 3) := dk_182 1 43 (dk_at dksX3_another_0 12 rfl rfl)
theorem dX3_another_15 : decode cX3_another 15 = .ok (.iconst (-1), 1) := dk_2 (dk_at dksX3_another_0 15 rfl rfl)
theorem dX3_another_16 : decode cX3_another 16 = .ok (.ixor, 1) := dk_130 (dk_at dksX3_another_0 16 rfl rfl)
theorem dX3_another_17 : decode cX3_another 17 = .ok (.iand, 1) := dk_126 (dk_at dksX3_another_0 17 rfl rfl)
theorem dX3_another_18 : decode cX3_another 18 = .ok (.ifCond .ne 20, 3) := dk_154 0 20 (dk_at dksX3_another_0 18 rfl rfl)
theorem dX3_another_21 : decode cX3_another 21 = .ok (.iload_n 3, 1) := dk_29 (dk_at dksX3_another_0 21 rfl rfl)
theorem dX3_another_22 : decode cX3_another 22 = .ok (.aload_n 0, 1) := dk_42 (dk_at dksX3_another_0 22 rfl rfl)
theorem dX3_another_23 : decode cX3_another 23 = .ok (.getfield 86, 3) := dk_180 0 86 (dk_at dksX3_another_1 0 rfl rfl)
theorem dX3_another_26 : decode cX3_another 26 = .ok (.aload_n 0, 1) := dk_42 (dk_at dksX3_another_1 3 rfl rfl)
theorem dX3_another_27 : decode cX3_another 27 = .ok (.getfield 16, 3) := dk_180 0 16 (dk_at dksX3_another_1 4 rfl rfl)
theorem dX3_another_30 : decode cX3_another 30 = .ok (.iload_n 1, 1) := dk_27 (dk_at dksX3_another_1 7 rfl rfl)
theorem dX3_another_31 : decode cX3_another 31 = .ok (.iaload, 1) := dk_46 (dk_at dksX3_another_1 8 rfl rfl)
theorem dX3_another_32 : decode cX3_another 32 = .ok (.iaload, 1) := dk_46 (dk_at dksX3_another_1 9 rfl rfl)
theorem dX3_another_33 : decode cX3_another 33 = .ok (.if_icmp .eq 5, 3) := dk_159 0 5 (dk_at dksX3_another_1 10 rfl rfl)
theorem dX3_another_36 : decode cX3_another 36 = .ok (.iload_n 3, 1) := dk_29 (dk_at dksX3_another_1 13 rfl rfl)
theorem dX3_another_37 : decode cX3_another 37 = .ok (.ireturn, 1) := dk_172 (dk_at dksX3_another_1 14 rfl rfl)
theorem dX3_another_38 : decode cX3_another 38 = .ok (.iinc 3 1, 3) := dk_132 3 1 (dk_at dksX3_another_1 15 rfl rfl)
theorem dX3_another_41 : decode cX3_another 41 = .ok (.goto (-37), 3) := dk_167 255 219 (dk_at dksX3_another_1 18 rfl rfl)
theorem dX3_another_44 : decode cX3_another 44 = .ok (.iconst (-1), 1) := dk_2 (dk_at dksX3_another_1 21 rfl rfl)
theorem dX3_another_45 : decode cX3_another 45 = .ok (.ireturn, 1) := dk_172 (dk_at dksX3_another_1 22 rfl rfl)
def dkwX3_turnsDoors_3 : List UInt8 := [182, 1, 106, 79, 132, 2, 255, 167, 255, 185, 3, 172]
abbrev dktX3_turnsDoors_3 : List UInt8 := dkwX3_turnsDoors_3 ++ []
def dkwX3_turnsDoors_2 : List UInt8 := [42, 180, 0, 16, 28, 46, 29, 79, 4, 172, 42, 180, 0, 83, 42, 180, 0, 16, 28, 46, 42, 28, 2]
abbrev dktX3_turnsDoors_2 : List UInt8 := dkwX3_turnsDoors_2 ++ dktX3_turnsDoors_3
def dkwX3_turnsDoors_1 : List UInt8 := [42, 180, 0, 83, 42, 180, 0, 16, 28, 46, 46, 182, 1, 106, 62, 29, 2, 159, 0, 17, 42, 180, 0, 83]
abbrev dktX3_turnsDoors_1 : List UInt8 := dkwX3_turnsDoors_1 ++ dktX3_turnsDoors_2
def dkwX3_turnsDoors_0 : List UInt8 := [42, 180, 0, 251, 4, 100, 61, 28, 155, 0, 73, 27, 28, 122, 4, 126, 154, 0, 6, 167, 0, 56, 42, 28]
abbrev dktX3_turnsDoors_0 : List UInt8 := dkwX3_turnsDoors_0 ++ dktX3_turnsDoors_1
theorem dksX3_turnsDoors_0 : cX3_turnsDoors.data.toList.drop 0 = dktX3_turnsDoors_0 := by decide +kernel
theorem dksX3_turnsDoors_1 : cX3_turnsDoors.data.toList.drop 24 = dktX3_turnsDoors_1 := dk_seg dksX3_turnsDoors_0 24 rfl rfl
theorem dksX3_turnsDoors_2 : cX3_turnsDoors.data.toList.drop 48 = dktX3_turnsDoors_2 := dk_seg dksX3_turnsDoors_1 24 rfl rfl
theorem dksX3_turnsDoors_3 : cX3_turnsDoors.data.toList.drop 71 = dktX3_turnsDoors_3 := dk_seg dksX3_turnsDoors_2 23 rfl rfl
theorem dX3_turnsDoors_0 : decode cX3_turnsDoors 0 = .ok (.aload_n 0, 1) := dk_42 (dk_at dksX3_turnsDoors_0 0 rfl rfl)
theorem dX3_turnsDoors_1 : decode cX3_turnsDoors 1 = .ok (.getfield 251, 3) := dk_180 0 251 (dk_at dksX3_turnsDoors_0 1 rfl rfl)
theorem dX3_turnsDoors_4 : decode cX3_turnsDoors 4 = .ok (.iconst 1, 1) := dk_4 (dk_at dksX3_turnsDoors_0 4 rfl rfl)
theorem dX3_turnsDoors_5 : decode cX3_turnsDoors 5 = .ok (.isub, 1) := dk_100 (dk_at dksX3_turnsDoors_0 5 rfl rfl)
theorem dX3_turnsDoors_6 : decode cX3_turnsDoors 6 = .ok (.istore_n 2, 1) := dk_61 (dk_at dksX3_turnsDoors_0 6 rfl rfl)
theorem dX3_turnsDoors_7 : decode cX3_turnsDoors 7 = .ok (.iload_n 2, 1) := dk_28 (dk_at dksX3_turnsDoors_0 7 rfl rfl)
theorem dX3_turnsDoors_8 : decode cX3_turnsDoors 8 = .ok (.ifCond .lt 73, 3) := dk_155 0 73 (dk_at dksX3_turnsDoors_0 8 rfl rfl)
theorem dX3_turnsDoors_11 : decode cX3_turnsDoors 11 = .ok (.iload_n 1, 1) := dk_27 (dk_at dksX3_turnsDoors_0 11 rfl rfl)
theorem dX3_turnsDoors_12 : decode cX3_turnsDoors 12 = .ok (.iload_n 2, 1) := dk_28 (dk_at dksX3_turnsDoors_0 12 rfl rfl)
theorem dX3_turnsDoors_13 : decode cX3_turnsDoors 13 = .ok (.ishr, 1) := dk_122 (dk_at dksX3_turnsDoors_0 13 rfl rfl)
theorem dX3_turnsDoors_14 : decode cX3_turnsDoors 14 = .ok (.iconst 1, 1) := dk_4 (dk_at dksX3_turnsDoors_0 14 rfl rfl)
theorem dX3_turnsDoors_15 : decode cX3_turnsDoors 15 = .ok (.iand, 1) := dk_126 (dk_at dksX3_turnsDoors_0 15 rfl rfl)
theorem dX3_turnsDoors_16 : decode cX3_turnsDoors 16 = .ok (.ifCond .ne 6, 3) := dk_154 0 6 (dk_at dksX3_turnsDoors_0 16 rfl rfl)
theorem dX3_turnsDoors_19 : decode cX3_turnsDoors 19 = .ok (.goto 56, 3) := dk_167 0 56 (dk_at dksX3_turnsDoors_0 19 rfl rfl)
theorem dX3_turnsDoors_22 : decode cX3_turnsDoors 22 = .ok (.aload_n 0, 1) := dk_42 (dk_at dksX3_turnsDoors_0 22 rfl rfl)
theorem dX3_turnsDoors_23 : decode cX3_turnsDoors 23 = .ok (.iload_n 2, 1) := dk_28 (dk_at dksX3_turnsDoors_0 23 rfl rfl)
theorem dX3_turnsDoors_24 : decode cX3_turnsDoors 24 = .ok (.aload_n 0, 1) := dk_42 (dk_at dksX3_turnsDoors_1 0 rfl rfl)
theorem dX3_turnsDoors_25 : decode cX3_turnsDoors 25 = .ok (.getfield 83, 3) := dk_180 0 83 (dk_at dksX3_turnsDoors_1 1 rfl rfl)
theorem dX3_turnsDoors_28 : decode cX3_turnsDoors 28 = .ok (.aload_n 0, 1) := dk_42 (dk_at dksX3_turnsDoors_1 4 rfl rfl)
theorem dX3_turnsDoors_29 : decode cX3_turnsDoors 29 = .ok (.getfield 16, 3) := dk_180 0 16 (dk_at dksX3_turnsDoors_1 5 rfl rfl)
theorem dX3_turnsDoors_32 : decode cX3_turnsDoors 32 = .ok (.iload_n 2, 1) := dk_28 (dk_at dksX3_turnsDoors_1 8 rfl rfl)
theorem dX3_turnsDoors_33 : decode cX3_turnsDoors 33 = .ok (.iaload, 1) := dk_46 (dk_at dksX3_turnsDoors_1 9 rfl rfl)
theorem dX3_turnsDoors_34 : decode cX3_turnsDoors 34 = .ok (.iaload, 1) := dk_46 (dk_at dksX3_turnsDoors_1 10 rfl rfl)
theorem dX3_turnsDoors_35 : decode cX3_turnsDoors 35 = .ok (.invokevirtual 362, 3) := dk_182 1 106 (dk_at dksX3_turnsDoors_1 11 rfl rfl)
theorem dX3_turnsDoors_38 : decode cX3_turnsDoors 38 = .ok (.istore_n 3, 1) := dk_62 (dk_at dksX3_turnsDoors_1 14 rfl rfl)
theorem dX3_turnsDoors_39 : decode cX3_turnsDoors 39 = .ok (.iload_n 3, 1) := dk_29 (dk_at dksX3_turnsDoors_1 15 rfl rfl)
theorem dX3_turnsDoors_40 : decode cX3_turnsDoors 40 = .ok (.iconst (-1), 1) := dk_2 (dk_at dksX3_turnsDoors_1 16 rfl rfl)
theorem dX3_turnsDoors_41 : decode cX3_turnsDoors 41 = .ok (.if_icmp .eq 17, 3) := dk_159 0 17 (dk_at dksX3_turnsDoors_1 17 rfl rfl)
theorem dX3_turnsDoors_44 : decode cX3_turnsDoors 44 = .ok (.aload_n 0, 1) := dk_42 (dk_at dksX3_turnsDoors_1 20 rfl rfl)
theorem dX3_turnsDoors_45 : decode cX3_turnsDoors 45 = .ok (.getfield 83, 3) := dk_180 0 83 (dk_at dksX3_turnsDoors_1 21 rfl rfl)
theorem dX3_turnsDoors_48 : decode cX3_turnsDoors 48 = .ok (.aload_n 0, 1) := dk_42 (dk_at dksX3_turnsDoors_2 0 rfl rfl)
theorem dX3_turnsDoors_49 : decode cX3_turnsDoors 49 = .ok (.getfield 16, 3) := dk_180 0 16 (dk_at dksX3_turnsDoors_2 1 rfl rfl)
theorem dX3_turnsDoors_52 : decode cX3_turnsDoors 52 = .ok (.iload_n 2, 1) := dk_28 (dk_at dksX3_turnsDoors_2 4 rfl rfl)
theorem dX3_turnsDoors_53 : decode cX3_turnsDoors 53 = .ok (.iaload, 1) := dk_46 (dk_at dksX3_turnsDoors_2 5 rfl rfl)
theorem dX3_turnsDoors_54 : decode cX3_turnsDoors 54 = .ok (.iload_n 3, 1) := dk_29 (dk_at dksX3_turnsDoors_2 6 rfl rfl)
theorem dX3_turnsDoors_55 : decode cX3_turnsDoors 55 = .ok (.iastore, 1) := dk_79 (dk_at dksX3_turnsDoors_2 7 rfl rfl)
theorem dX3_turnsDoors_56 : decode cX3_turnsDoors 56 = .ok (.iconst 1, 1) := dk_4 (dk_at dksX3_turnsDoors_2 8 rfl rfl)
theorem dX3_turnsDoors_57 : decode cX3_turnsDoors 57 = .ok (.ireturn, 1) := dk_172 (dk_at dksX3_turnsDoors_2 9 rfl rfl)
theorem dX3_turnsDoors_58 : decode cX3_turnsDoors 58 = .ok (.aload_n 0, 1) := dk_42 (dk_at dksX3_turnsDoors_2 10 rfl rfl)
theorem dX3_turnsDoors_59 : decode cX3_turnsDoors 59 = .ok (.getfield 83, 3) := dk_180 0 83 (dk_at dksX3_turnsDoors_2 11 rfl rfl)
theorem dX3_turnsDoors_62 : decode cX3_turnsDoors 62 = .ok (.aload_n 0, 1) := dk_42 (dk_at dksX3_turnsDoors_2 14 rfl rfl)
theorem dX3_turnsDoors_63 : decode cX3_turnsDoors 63 = .ok (.getfield 16, 3) := dk_180 0 16 (dk_at dksX3_turnsDoors_2 15 rfl rfl)
theorem dX3_turnsDoors_66 : decode cX3_turnsDoors 66 = .ok (.iload_n 2, 1) := dk_28 (dk_at dksX3_turnsDoors_2 18 rfl rfl)
theorem dX3_turnsDoors_67 : decode cX3_turnsDoors 67 = .ok (.iaload, 1) := dk_46 (dk_at dksX3_turnsDoors_2 19 rfl rfl)
theorem dX3_turnsDoors_68 : decode cX3_turnsDoors 68 = .ok (.aload_n 0, 1) := dk_42 (dk_at dksX3_turnsDoors_2 20 rfl rfl)
theorem dX3_turnsDoors_69 : decode cX3_turnsDoors 69 = .ok (.iload_n 2, 1) := dk_28 (dk_at dksX3_turnsDoors_2 21 rfl rfl)
theorem dX3_turnsDoors_70 : decode cX3_turnsDoors 70 = .ok (.iconst (-1), 1) := dk_2 (dk_at dksX3_turnsDoors_2 22 rfl rfl)
theorem dX3_turnsDoors_71 : decode cX3_turnsDoors 71 = .ok (.invokevirtual 362, 3) := dk_182 1 106 (dk_at dksX3_turnsDoors_3 0 rfl rfl)
theorem dX3_turnsDoors_74 : decode cX3_turnsDoors 74 = .ok (.iastore, 1) := dk_79 (dk_at dksX3_turnsDoors_3 3 rfl rfl)
theorem dX3_turnsDoors_75 : decode cX3_turnsDoors 75 = .ok (.iinc 2 (-1), 3) := dk_132 2 255 (dk_at dksX3_turnsDoors_3 4 rfl rfl)
theorem dX3_turnsDoors_78 : decode cX3_turnsDoors 78 = .ok (.goto (-71), 3) := dk_167 255 185 (dk_at dksX3_turnsDoors_3 7 rfl rfl)
theorem dX3_turnsDoors_81 : decode cX3_turnsDoors 81 = .ok (.iconst 0, 1) := dk_3 (dk_at dksX3_turnsDoors_3 10 rfl rfl)
theorem dX3_turnsDoors_82 : decode cX3_turnsDoors 82 = .ok (.ireturn, 1) := dk_172 (dk_at dksX3_turnsDoors_3 11 rfl rfl)
def dkwX3_chance_1 : List UInt8 := [182, 1, 115, 167, 0, 4, 3, 172]
abbrev dktX3_chance_1 : List UInt8 := dkwX3_chance_1 ++ []
def dkwX3_chance_0 : List UInt8 := [42, 3, 181, 0, 134, 42, 27, 182, 1, 31, 153, 0, 20, 42, 28, 182, 1, 49, 153, 0, 12, 42, 27, 28]
abbrev dktX3_chance_0 : List UInt8 := dkwX3_chance_0 ++ dktX3_chance_1
theorem dksX3_chance_0 : cX3_chance.data.toList.drop 0 = dktX3_chance_0 := by decide +kernel
theorem dksX3_chance_1 : cX3_chance.data.toList.drop 24 = dktX3_chance_1 := dk_seg dksX3_chance_0 24 rfl rfl
theorem dX3_chance_0 : decode cX3_chance 0 = .ok (.aload_n 0, 1) := dk_42 (dk_at dksX3_chance_0 0 rfl rfl)
theorem dX3_chance_1 : decode cX3_chance 1 = .ok (.iconst 0, 1) := dk_3 (dk_at dksX3_chance_0 1 rfl rfl)
theorem dX3_chance_2 : decode cX3_chance 2 = .ok (.putfield 134, 3) := dk_181 0 134 (dk_at dksX3_chance_0 2 rfl rfl)
theorem dX3_chance_5 : decode cX3_chance 5 = .ok (.aload_n 0, 1) := dk_42 (dk_at dksX3_chance_0 5 rfl rfl)
theorem dX3_chance_6 : decode cX3_chance 6 = .ok (.iload_n 1, 1) := dk_27 (dk_at dksX3_chance_0 6 rfl rfl)
theorem dX3_chance_7 : decode cX3_chance 7 = .ok (.invokevirtual 287, 3) := dk_182 1 31 (dk_at dksX3_chance_0 7 rfl rfl)
theorem dX3_chance_10 : decode cX3_chance 10 = .ok (.ifCond .eq 20, 3) := dk_153 0 20 (dk_at dksX3_chance_0 10 rfl rfl)
theorem dX3_chance_13 : decode cX3_chance 13 = .ok (.aload_n 0, 1) := dk_42 (dk_at dksX3_chance_0 13 rfl rfl)
theorem dX3_chance_14 : decode cX3_chance 14 = .ok (.iload_n 2, 1) := dk_28 (dk_at dksX3_chance_0 14 rfl rfl)
theorem dX3_chance_15 : decode cX3_chance 15 = .ok (.invokevirtual 305, 3) := dk_182 1 49 (dk_at dksX3_chance_0 15 rfl rfl)
theorem dX3_chance_18 : decode cX3_chance 18 = .ok (.ifCond .eq 12, 3) := dk_153 0 12 (dk_at dksX3_chance_0 18 rfl rfl)
theorem dX3_chance_21 : decode cX3_chance 21 = .ok (.aload_n 0, 1) := dk_42 (dk_at dksX3_chance_0 21 rfl rfl)
theorem dX3_chance_22 : decode cX3_chance 22 = .ok (.iload_n 1, 1) := dk_27 (dk_at dksX3_chance_0 22 rfl rfl)
theorem dX3_chance_23 : decode cX3_chance 23 = .ok (.iload_n 2, 1) := dk_28 (dk_at dksX3_chance_0 23 rfl rfl)
theorem dX3_chance_24 : decode cX3_chance 24 = .ok (.invokevirtual 371, 3) := dk_182 1 115 (dk_at dksX3_chance_1 0 rfl rfl)
theorem dX3_chance_27 : decode cX3_chance 27 = .ok (.goto 4, 3) := dk_167 0 4 (dk_at dksX3_chance_1 3 rfl rfl)
theorem dX3_chance_30 : decode cX3_chance 30 = .ok (.iconst 0, 1) := dk_3 (dk_at dksX3_chance_1 6 rfl rfl)
theorem dX3_chance_31 : decode cX3_chance 31 = .ok (.ireturn, 1) := dk_172 (dk_at dksX3_chance_1 7 rfl rfl)
def dkwX3_chanceOf_4 : List UInt8 := [184, 1, 52, 108, 21, 4, 104, 172]
abbrev dktX3_chanceOf_4 : List UInt8 := dkwX3_chanceOf_4 ++ []
def dkwX3_chanceOf_3 : List UInt8 := [54, 4, 132, 5, 1, 167, 255, 206, 17, 108, 72, 42, 180, 0, 28, 16, 24, 29, 104, 28, 96, 46]
abbrev dktX3_chanceOf_3 : List UInt8 := dkwX3_chanceOf_3 ++ dktX3_chanceOf_4
def dkwX3_chanceOf_2 : List UInt8 := [122, 4, 126, 4, 160, 0, 17, 42, 29, 21, 5, 182, 1, 58, 154, 0, 7, 4, 167, 0, 4, 3, 96]
abbrev dktX3_chanceOf_2 : List UInt8 := dkwX3_chanceOf_2 ++ dktX3_chanceOf_3
def dkwX3_chanceOf_1 : List UInt8 := [54, 5, 21, 5, 16, 18, 162, 0, 49, 21, 4, 42, 180, 0, 28, 16, 24, 29, 104, 28, 96, 46, 21, 5]
abbrev dktX3_chanceOf_1 : List UInt8 := dkwX3_chanceOf_1 ++ dktX3_chanceOf_2
def dkwX3_chanceOf_0 : List UInt8 := [42, 180, 0, 13, 27, 46, 2, 160, 0, 5, 3, 172, 42, 180, 0, 13, 27, 46, 62, 3, 54, 4, 3]
abbrev dktX3_chanceOf_0 : List UInt8 := dkwX3_chanceOf_0 ++ dktX3_chanceOf_1
theorem dksX3_chanceOf_0 : cX3_chanceOf.data.toList.drop 0 = dktX3_chanceOf_0 := by decide +kernel
theorem dksX3_chanceOf_1 : cX3_chanceOf.data.toList.drop 23 = dktX3_chanceOf_1 := dk_seg dksX3_chanceOf_0 23 rfl rfl
theorem dksX3_chanceOf_2 : cX3_chanceOf.data.toList.drop 47 = dktX3_chanceOf_2 := dk_seg dksX3_chanceOf_1 24 rfl rfl
theorem dksX3_chanceOf_3 : cX3_chanceOf.data.toList.drop 70 = dktX3_chanceOf_3 := dk_seg dksX3_chanceOf_2 23 rfl rfl
theorem dksX3_chanceOf_4 : cX3_chanceOf.data.toList.drop 92 = dktX3_chanceOf_4 := dk_seg dksX3_chanceOf_3 22 rfl rfl
theorem dX3_chanceOf_0 : decode cX3_chanceOf 0 = .ok (.aload_n 0, 1) := dk_42 (dk_at dksX3_chanceOf_0 0 rfl rfl)
theorem dX3_chanceOf_1 : decode cX3_chanceOf 1 = .ok (.getfield 13, 3) := dk_180 0 13 (dk_at dksX3_chanceOf_0 1 rfl rfl)
theorem dX3_chanceOf_4 : decode cX3_chanceOf 4 = .ok (.iload_n 1, 1) := dk_27 (dk_at dksX3_chanceOf_0 4 rfl rfl)
theorem dX3_chanceOf_5 : decode cX3_chanceOf 5 = .ok (.iaload, 1) := dk_46 (dk_at dksX3_chanceOf_0 5 rfl rfl)
theorem dX3_chanceOf_6 : decode cX3_chanceOf 6 = .ok (.iconst (-1), 1) := dk_2 (dk_at dksX3_chanceOf_0 6 rfl rfl)
theorem dX3_chanceOf_7 : decode cX3_chanceOf 7 = .ok (.if_icmp .ne 5, 3) := dk_160 0 5 (dk_at dksX3_chanceOf_0 7 rfl rfl)
theorem dX3_chanceOf_10 : decode cX3_chanceOf 10 = .ok (.iconst 0, 1) := dk_3 (dk_at dksX3_chanceOf_0 10 rfl rfl)
theorem dX3_chanceOf_11 : decode cX3_chanceOf 11 = .ok (.ireturn, 1) := dk_172 (dk_at dksX3_chanceOf_0 11 rfl rfl)
theorem dX3_chanceOf_12 : decode cX3_chanceOf 12 = .ok (.aload_n 0, 1) := dk_42 (dk_at dksX3_chanceOf_0 12 rfl rfl)
theorem dX3_chanceOf_13 : decode cX3_chanceOf 13 = .ok (.getfield 13, 3) := dk_180 0 13 (dk_at dksX3_chanceOf_0 13 rfl rfl)
theorem dX3_chanceOf_16 : decode cX3_chanceOf 16 = .ok (.iload_n 1, 1) := dk_27 (dk_at dksX3_chanceOf_0 16 rfl rfl)
theorem dX3_chanceOf_17 : decode cX3_chanceOf 17 = .ok (.iaload, 1) := dk_46 (dk_at dksX3_chanceOf_0 17 rfl rfl)
theorem dX3_chanceOf_18 : decode cX3_chanceOf 18 = .ok (.istore_n 3, 1) := dk_62 (dk_at dksX3_chanceOf_0 18 rfl rfl)
theorem dX3_chanceOf_19 : decode cX3_chanceOf 19 = .ok (.iconst 0, 1) := dk_3 (dk_at dksX3_chanceOf_0 19 rfl rfl)
theorem dX3_chanceOf_20 : decode cX3_chanceOf 20 = .ok (.istore 4, 2) := dk_54 4 (dk_at dksX3_chanceOf_0 20 rfl rfl)
theorem dX3_chanceOf_22 : decode cX3_chanceOf 22 = .ok (.iconst 0, 1) := dk_3 (dk_at dksX3_chanceOf_0 22 rfl rfl)
theorem dX3_chanceOf_23 : decode cX3_chanceOf 23 = .ok (.istore 5, 2) := dk_54 5 (dk_at dksX3_chanceOf_1 0 rfl rfl)
theorem dX3_chanceOf_25 : decode cX3_chanceOf 25 = .ok (.iload 5, 2) := dk_21 5 (dk_at dksX3_chanceOf_1 2 rfl rfl)
theorem dX3_chanceOf_27 : decode cX3_chanceOf 27 = .ok (.bipush 18, 2) := dk_16 18 (dk_at dksX3_chanceOf_1 4 rfl rfl)
theorem dX3_chanceOf_29 : decode cX3_chanceOf 29 = .ok (.if_icmp .ge 49, 3) := dk_162 0 49 (dk_at dksX3_chanceOf_1 6 rfl rfl)
theorem dX3_chanceOf_32 : decode cX3_chanceOf 32 = .ok (.iload 4, 2) := dk_21 4 (dk_at dksX3_chanceOf_1 9 rfl rfl)
theorem dX3_chanceOf_34 : decode cX3_chanceOf 34 = .ok (.aload_n 0, 1) := dk_42 (dk_at dksX3_chanceOf_1 11 rfl rfl)
theorem dX3_chanceOf_35 : decode cX3_chanceOf 35 = .ok (.getfield 28, 3) := dk_180 0 28 (dk_at dksX3_chanceOf_1 12 rfl rfl)
theorem dX3_chanceOf_38 : decode cX3_chanceOf 38 = .ok (.bipush 24, 2) := dk_16 24 (dk_at dksX3_chanceOf_1 15 rfl rfl)
theorem dX3_chanceOf_40 : decode cX3_chanceOf 40 = .ok (.iload_n 3, 1) := dk_29 (dk_at dksX3_chanceOf_1 17 rfl rfl)
theorem dX3_chanceOf_41 : decode cX3_chanceOf 41 = .ok (.imul, 1) := dk_104 (dk_at dksX3_chanceOf_1 18 rfl rfl)
theorem dX3_chanceOf_42 : decode cX3_chanceOf 42 = .ok (.iload_n 2, 1) := dk_28 (dk_at dksX3_chanceOf_1 19 rfl rfl)
theorem dX3_chanceOf_43 : decode cX3_chanceOf 43 = .ok (.iadd, 1) := dk_96 (dk_at dksX3_chanceOf_1 20 rfl rfl)
theorem dX3_chanceOf_44 : decode cX3_chanceOf 44 = .ok (.iaload, 1) := dk_46 (dk_at dksX3_chanceOf_1 21 rfl rfl)
theorem dX3_chanceOf_45 : decode cX3_chanceOf 45 = .ok (.iload 5, 2) := dk_21 5 (dk_at dksX3_chanceOf_1 22 rfl rfl)
theorem dX3_chanceOf_47 : decode cX3_chanceOf 47 = .ok (.ishr, 1) := dk_122 (dk_at dksX3_chanceOf_2 0 rfl rfl)
theorem dX3_chanceOf_48 : decode cX3_chanceOf 48 = .ok (.iconst 1, 1) := dk_4 (dk_at dksX3_chanceOf_2 1 rfl rfl)
theorem dX3_chanceOf_49 : decode cX3_chanceOf 49 = .ok (.iand, 1) := dk_126 (dk_at dksX3_chanceOf_2 2 rfl rfl)
theorem dX3_chanceOf_50 : decode cX3_chanceOf 50 = .ok (.iconst 1, 1) := dk_4 (dk_at dksX3_chanceOf_2 3 rfl rfl)
theorem dX3_chanceOf_51 : decode cX3_chanceOf 51 = .ok (.if_icmp .ne 17, 3) := dk_160 0 17 (dk_at dksX3_chanceOf_2 4 rfl rfl)
theorem dX3_chanceOf_54 : decode cX3_chanceOf 54 = .ok (.aload_n 0, 1) := dk_42 (dk_at dksX3_chanceOf_2 7 rfl rfl)
theorem dX3_chanceOf_55 : decode cX3_chanceOf 55 = .ok (.iload_n 3, 1) := dk_29 (dk_at dksX3_chanceOf_2 8 rfl rfl)
theorem dX3_chanceOf_56 : decode cX3_chanceOf 56 = .ok (.iload 5, 2) := dk_21 5 (dk_at dksX3_chanceOf_2 9 rfl rfl)
theorem dX3_chanceOf_58 : decode cX3_chanceOf 58 = .ok (.invokevirtual 314, 3) := dk_182 1 58 (dk_at dksX3_chanceOf_2 11 rfl rfl)
theorem dX3_chanceOf_61 : decode cX3_chanceOf 61 = .ok (.ifCond .ne 7, 3) := dk_154 0 7 (dk_at dksX3_chanceOf_2 14 rfl rfl)
theorem dX3_chanceOf_64 : decode cX3_chanceOf 64 = .ok (.iconst 1, 1) := dk_4 (dk_at dksX3_chanceOf_2 17 rfl rfl)
theorem dX3_chanceOf_65 : decode cX3_chanceOf 65 = .ok (.goto 4, 3) := dk_167 0 4 (dk_at dksX3_chanceOf_2 18 rfl rfl)
theorem dX3_chanceOf_68 : decode cX3_chanceOf 68 = .ok (.iconst 0, 1) := dk_3 (dk_at dksX3_chanceOf_2 21 rfl rfl)
theorem dX3_chanceOf_69 : decode cX3_chanceOf 69 = .ok (.iadd, 1) := dk_96 (dk_at dksX3_chanceOf_2 22 rfl rfl)
theorem dX3_chanceOf_70 : decode cX3_chanceOf 70 = .ok (.istore 4, 2) := dk_54 4 (dk_at dksX3_chanceOf_3 0 rfl rfl)
theorem dX3_chanceOf_72 : decode cX3_chanceOf 72 = .ok (.iinc 5 1, 3) := dk_132 5 1 (dk_at dksX3_chanceOf_3 2 rfl rfl)
theorem dX3_chanceOf_75 : decode cX3_chanceOf 75 = .ok (.goto (-50), 3) := dk_167 255 206 (dk_at dksX3_chanceOf_3 5 rfl rfl)
theorem dX3_chanceOf_78 : decode cX3_chanceOf 78 = .ok (.sipush 27720, 3) := dk_17 108 72 (dk_at dksX3_chanceOf_3 8 rfl rfl)
theorem dX3_chanceOf_81 : decode cX3_chanceOf 81 = .ok (.aload_n 0, 1) := dk_42 (dk_at dksX3_chanceOf_3 11 rfl rfl)
theorem dX3_chanceOf_82 : decode cX3_chanceOf 82 = .ok (.getfield 28, 3) := dk_180 0 28 (dk_at dksX3_chanceOf_3 12 rfl rfl)
theorem dX3_chanceOf_85 : decode cX3_chanceOf 85 = .ok (.bipush 24, 2) := dk_16 24 (dk_at dksX3_chanceOf_3 15 rfl rfl)
theorem dX3_chanceOf_87 : decode cX3_chanceOf 87 = .ok (.iload_n 3, 1) := dk_29 (dk_at dksX3_chanceOf_3 17 rfl rfl)
theorem dX3_chanceOf_88 : decode cX3_chanceOf 88 = .ok (.imul, 1) := dk_104 (dk_at dksX3_chanceOf_3 18 rfl rfl)
theorem dX3_chanceOf_89 : decode cX3_chanceOf 89 = .ok (.iload_n 2, 1) := dk_28 (dk_at dksX3_chanceOf_3 19 rfl rfl)
theorem dX3_chanceOf_90 : decode cX3_chanceOf 90 = .ok (.iadd, 1) := dk_96 (dk_at dksX3_chanceOf_3 20 rfl rfl)
theorem dX3_chanceOf_91 : decode cX3_chanceOf 91 = .ok (.iaload, 1) := dk_46 (dk_at dksX3_chanceOf_3 21 rfl rfl)
theorem dX3_chanceOf_92 : decode cX3_chanceOf 92 = .ok (.invokestatic 308, 3) := dk_184 1 52 (dk_at dksX3_chanceOf_4 0 rfl rfl)
theorem dX3_chanceOf_95 : decode cX3_chanceOf 95 = .ok (.idiv, 1) := dk_108 (dk_at dksX3_chanceOf_4 3 rfl rfl)
theorem dX3_chanceOf_96 : decode cX3_chanceOf 96 = .ok (.iload 4, 2) := dk_21 4 (dk_at dksX3_chanceOf_4 4 rfl rfl)
theorem dX3_chanceOf_98 : decode cX3_chanceOf 98 = .ok (.imul, 1) := dk_104 (dk_at dksX3_chanceOf_4 6 rfl rfl)
theorem dX3_chanceOf_99 : decode cX3_chanceOf 99 = .ok (.ireturn, 1) := dk_172 (dk_at dksX3_chanceOf_4 7 rfl rfl)
def dkwX3_round_11 : List UInt8 := [167, 255, 218, 42, 29, 182, 1, 124, 54, 5, 167, 255, 170, 42, 29, 181, 1, 14, 21, 4, 172]
abbrev dktX3_round_11 : List UInt8 := dkwX3_round_11 ++ []
def dkwX3_round_10 : List UInt8 := [180, 0, 92, 21, 7, 46, 29, 182, 1, 118, 21, 7, 160, 0, 7, 4, 167, 0, 4, 3, 79, 132, 7, 1]
abbrev dktX3_round_10 : List UInt8 := dkwX3_round_10 ++ dktX3_round_11
def dkwX3_round_9 : List UInt8 := [180, 0, 95, 182, 1, 4, 3, 54, 7, 21, 7, 29, 162, 0, 38, 42, 180, 0, 98, 21, 7, 42, 42]
abbrev dktX3_round_9 : List UInt8 := dkwX3_round_9 ++ dktX3_round_10
def dkwX3_round_8 : List UInt8 := [29, 182, 1, 121, 54, 6, 21, 6, 21, 4, 164, 0, 63, 21, 6, 54, 4, 42, 42, 180, 0, 92, 42]
abbrev dktX3_round_8 : List UInt8 := dkwX3_round_8 ++ dktX3_round_9
def dkwX3_round_7 : List UInt8 := [100, 167, 0, 4, 3, 79, 132, 4, 1, 167, 255, 213, 2, 54, 4, 4, 54, 5, 21, 5, 153, 0, 87, 42]
abbrev dktX3_round_7 : List UInt8 := dkwX3_round_7 ++ dktX3_round_8
def dkwX3_round_6 : List UInt8 := [21, 4, 42, 180, 0, 92, 21, 4, 4, 100, 46, 158, 0, 17, 42, 180, 0, 92, 21, 4, 4, 100, 46, 4]
abbrev dktX3_round_6 : List UInt8 := dkwX3_round_6 ++ dktX3_round_7
def dkwX3_round_5 : List UInt8 := [167, 255, 198, 42, 180, 0, 92, 3, 27, 79, 4, 54, 4, 21, 4, 29, 162, 0, 43, 42, 180, 0, 92]
abbrev dktX3_round_5 : List UInt8 := dkwX3_round_5 ++ dktX3_round_6
def dkwX3_round_4 : List UInt8 := [46, 42, 21, 4, 28, 21, 5, 96, 182, 1, 115, 104, 79, 132, 5, 1, 167, 255, 216, 132, 4, 1]
abbrev dktX3_round_4 : List UInt8 := dkwX3_round_4 ++ dktX3_round_5
def dkwX3_round_3 : List UInt8 := [21, 5, 29, 162, 0, 40, 42, 180, 0, 89, 16, 6, 21, 4, 104, 21, 5, 96, 42, 180, 0, 7, 21, 4]
abbrev dktX3_round_3 : List UInt8 := dkwX3_round_3 ++ dktX3_round_4
def dkwX3_round_2 : List UInt8 := [182, 0, 241, 154, 0, 5, 3, 172, 3, 54, 4, 21, 4, 42, 180, 0, 248, 162, 0, 55, 3, 54, 5]
abbrev dktX3_round_2 : List UInt8 := dkwX3_round_2 ++ dktX3_round_3
def dkwX3_round_1 : List UInt8 := [16, 6, 184, 1, 27, 153, 0, 15, 28, 29, 96, 16, 24, 163, 0, 7, 4, 167, 0, 4, 3, 5]
abbrev dktX3_round_1 : List UInt8 := dkwX3_round_1 ++ dktX3_round_2
def dkwX3_round_0 : List UInt8 := [42, 3, 181, 0, 134, 42, 27, 182, 1, 31, 153, 0, 42, 42, 28, 182, 1, 49, 153, 0, 34, 42, 29, 4]
abbrev dktX3_round_0 : List UInt8 := dkwX3_round_0 ++ dktX3_round_1
theorem dksX3_round_0 : cX3_round.data.toList.drop 0 = dktX3_round_0 := by decide +kernel
theorem dksX3_round_1 : cX3_round.data.toList.drop 24 = dktX3_round_1 := dk_seg dksX3_round_0 24 rfl rfl
theorem dksX3_round_2 : cX3_round.data.toList.drop 46 = dktX3_round_2 := dk_seg dksX3_round_1 22 rfl rfl
theorem dksX3_round_3 : cX3_round.data.toList.drop 69 = dktX3_round_3 := dk_seg dksX3_round_2 23 rfl rfl
theorem dksX3_round_4 : cX3_round.data.toList.drop 93 = dktX3_round_4 := dk_seg dksX3_round_3 24 rfl rfl
theorem dksX3_round_5 : cX3_round.data.toList.drop 115 = dktX3_round_5 := dk_seg dksX3_round_4 22 rfl rfl
theorem dksX3_round_6 : cX3_round.data.toList.drop 138 = dktX3_round_6 := dk_seg dksX3_round_5 23 rfl rfl
theorem dksX3_round_7 : cX3_round.data.toList.drop 162 = dktX3_round_7 := dk_seg dksX3_round_6 24 rfl rfl
theorem dksX3_round_8 : cX3_round.data.toList.drop 186 = dktX3_round_8 := dk_seg dksX3_round_7 24 rfl rfl
theorem dksX3_round_9 : cX3_round.data.toList.drop 209 = dktX3_round_9 := dk_seg dksX3_round_8 23 rfl rfl
theorem dksX3_round_10 : cX3_round.data.toList.drop 232 = dktX3_round_10 := dk_seg dksX3_round_9 23 rfl rfl
theorem dksX3_round_11 : cX3_round.data.toList.drop 256 = dktX3_round_11 := dk_seg dksX3_round_10 24 rfl rfl
theorem dX3_round_0 : decode cX3_round 0 = .ok (.aload_n 0, 1) := dk_42 (dk_at dksX3_round_0 0 rfl rfl)
theorem dX3_round_1 : decode cX3_round 1 = .ok (.iconst 0, 1) := dk_3 (dk_at dksX3_round_0 1 rfl rfl)
theorem dX3_round_2 : decode cX3_round 2 = .ok (.putfield 134, 3) := dk_181 0 134 (dk_at dksX3_round_0 2 rfl rfl)
theorem dX3_round_5 : decode cX3_round 5 = .ok (.aload_n 0, 1) := dk_42 (dk_at dksX3_round_0 5 rfl rfl)
theorem dX3_round_6 : decode cX3_round 6 = .ok (.iload_n 1, 1) := dk_27 (dk_at dksX3_round_0 6 rfl rfl)
theorem dX3_round_7 : decode cX3_round 7 = .ok (.invokevirtual 287, 3) := dk_182 1 31 (dk_at dksX3_round_0 7 rfl rfl)
theorem dX3_round_10 : decode cX3_round 10 = .ok (.ifCond .eq 42, 3) := dk_153 0 42 (dk_at dksX3_round_0 10 rfl rfl)
theorem dX3_round_13 : decode cX3_round 13 = .ok (.aload_n 0, 1) := dk_42 (dk_at dksX3_round_0 13 rfl rfl)
theorem dX3_round_14 : decode cX3_round 14 = .ok (.iload_n 2, 1) := dk_28 (dk_at dksX3_round_0 14 rfl rfl)
theorem dX3_round_15 : decode cX3_round 15 = .ok (.invokevirtual 305, 3) := dk_182 1 49 (dk_at dksX3_round_0 15 rfl rfl)
theorem dX3_round_18 : decode cX3_round 18 = .ok (.ifCond .eq 34, 3) := dk_153 0 34 (dk_at dksX3_round_0 18 rfl rfl)
theorem dX3_round_21 : decode cX3_round 21 = .ok (.aload_n 0, 1) := dk_42 (dk_at dksX3_round_0 21 rfl rfl)
theorem dX3_round_22 : decode cX3_round 22 = .ok (.iload_n 3, 1) := dk_29 (dk_at dksX3_round_0 22 rfl rfl)
theorem dX3_round_23 : decode cX3_round 23 = .ok (.iconst 1, 1) := dk_4 (dk_at dksX3_round_0 23 rfl rfl)
theorem dX3_round_24 : decode cX3_round 24 = .ok (.bipush 6, 2) := dk_16 6 (dk_at dksX3_round_1 0 rfl rfl)
theorem dX3_round_26 : decode cX3_round 26 = .ok (.invokestatic 283, 3) := dk_184 1 27 (dk_at dksX3_round_1 2 rfl rfl)
theorem dX3_round_29 : decode cX3_round 29 = .ok (.ifCond .eq 15, 3) := dk_153 0 15 (dk_at dksX3_round_1 5 rfl rfl)
theorem dX3_round_32 : decode cX3_round 32 = .ok (.iload_n 2, 1) := dk_28 (dk_at dksX3_round_1 8 rfl rfl)
theorem dX3_round_33 : decode cX3_round 33 = .ok (.iload_n 3, 1) := dk_29 (dk_at dksX3_round_1 9 rfl rfl)
theorem dX3_round_34 : decode cX3_round 34 = .ok (.iadd, 1) := dk_96 (dk_at dksX3_round_1 10 rfl rfl)
theorem dX3_round_35 : decode cX3_round 35 = .ok (.bipush 24, 2) := dk_16 24 (dk_at dksX3_round_1 11 rfl rfl)
theorem dX3_round_37 : decode cX3_round 37 = .ok (.if_icmp .gt 7, 3) := dk_163 0 7 (dk_at dksX3_round_1 13 rfl rfl)
theorem dX3_round_40 : decode cX3_round 40 = .ok (.iconst 1, 1) := dk_4 (dk_at dksX3_round_1 16 rfl rfl)
theorem dX3_round_41 : decode cX3_round 41 = .ok (.goto 4, 3) := dk_167 0 4 (dk_at dksX3_round_1 17 rfl rfl)
theorem dX3_round_44 : decode cX3_round 44 = .ok (.iconst 0, 1) := dk_3 (dk_at dksX3_round_1 20 rfl rfl)
theorem dX3_round_45 : decode cX3_round 45 = .ok (.iconst 2, 1) := dk_5 (dk_at dksX3_round_1 21 rfl rfl)
theorem dX3_round_46 : decode cX3_round 46 = .ok (.invokevirtual 241, 3) := dk_182 0 241 (dk_at dksX3_round_2 0 rfl rfl)
theorem dX3_round_49 : decode cX3_round 49 = .ok (.ifCond .ne 5, 3) := dk_154 0 5 (dk_at dksX3_round_2 3 rfl rfl)
theorem dX3_round_52 : decode cX3_round 52 = .ok (.iconst 0, 1) := dk_3 (dk_at dksX3_round_2 6 rfl rfl)
theorem dX3_round_53 : decode cX3_round 53 = .ok (.ireturn, 1) := dk_172 (dk_at dksX3_round_2 7 rfl rfl)
theorem dX3_round_54 : decode cX3_round 54 = .ok (.iconst 0, 1) := dk_3 (dk_at dksX3_round_2 8 rfl rfl)
theorem dX3_round_55 : decode cX3_round 55 = .ok (.istore 4, 2) := dk_54 4 (dk_at dksX3_round_2 9 rfl rfl)
theorem dX3_round_57 : decode cX3_round 57 = .ok (.iload 4, 2) := dk_21 4 (dk_at dksX3_round_2 11 rfl rfl)
theorem dX3_round_59 : decode cX3_round 59 = .ok (.aload_n 0, 1) := dk_42 (dk_at dksX3_round_2 13 rfl rfl)
theorem dX3_round_60 : decode cX3_round 60 = .ok (.getfield 248, 3) := dk_180 0 248 (dk_at dksX3_round_2 14 rfl rfl)
theorem dX3_round_63 : decode cX3_round 63 = .ok (.if_icmp .ge 55, 3) := dk_162 0 55 (dk_at dksX3_round_2 17 rfl rfl)
theorem dX3_round_66 : decode cX3_round 66 = .ok (.iconst 0, 1) := dk_3 (dk_at dksX3_round_2 20 rfl rfl)
theorem dX3_round_67 : decode cX3_round 67 = .ok (.istore 5, 2) := dk_54 5 (dk_at dksX3_round_2 21 rfl rfl)
theorem dX3_round_69 : decode cX3_round 69 = .ok (.iload 5, 2) := dk_21 5 (dk_at dksX3_round_3 0 rfl rfl)
theorem dX3_round_71 : decode cX3_round 71 = .ok (.iload_n 3, 1) := dk_29 (dk_at dksX3_round_3 2 rfl rfl)
theorem dX3_round_72 : decode cX3_round 72 = .ok (.if_icmp .ge 40, 3) := dk_162 0 40 (dk_at dksX3_round_3 3 rfl rfl)
theorem dX3_round_75 : decode cX3_round 75 = .ok (.aload_n 0, 1) := dk_42 (dk_at dksX3_round_3 6 rfl rfl)
theorem dX3_round_76 : decode cX3_round 76 = .ok (.getfield 89, 3) := dk_180 0 89 (dk_at dksX3_round_3 7 rfl rfl)
theorem dX3_round_79 : decode cX3_round 79 = .ok (.bipush 6, 2) := dk_16 6 (dk_at dksX3_round_3 10 rfl rfl)
theorem dX3_round_81 : decode cX3_round 81 = .ok (.iload 4, 2) := dk_21 4 (dk_at dksX3_round_3 12 rfl rfl)
theorem dX3_round_83 : decode cX3_round 83 = .ok (.imul, 1) := dk_104 (dk_at dksX3_round_3 14 rfl rfl)
theorem dX3_round_84 : decode cX3_round 84 = .ok (.iload 5, 2) := dk_21 5 (dk_at dksX3_round_3 15 rfl rfl)
theorem dX3_round_86 : decode cX3_round 86 = .ok (.iadd, 1) := dk_96 (dk_at dksX3_round_3 17 rfl rfl)
theorem dX3_round_87 : decode cX3_round 87 = .ok (.aload_n 0, 1) := dk_42 (dk_at dksX3_round_3 18 rfl rfl)
theorem dX3_round_88 : decode cX3_round 88 = .ok (.getfield 7, 3) := dk_180 0 7 (dk_at dksX3_round_3 19 rfl rfl)
theorem dX3_round_91 : decode cX3_round 91 = .ok (.iload 4, 2) := dk_21 4 (dk_at dksX3_round_3 22 rfl rfl)
theorem dX3_round_93 : decode cX3_round 93 = .ok (.iaload, 1) := dk_46 (dk_at dksX3_round_4 0 rfl rfl)
theorem dX3_round_94 : decode cX3_round 94 = .ok (.aload_n 0, 1) := dk_42 (dk_at dksX3_round_4 1 rfl rfl)
theorem dX3_round_95 : decode cX3_round 95 = .ok (.iload 4, 2) := dk_21 4 (dk_at dksX3_round_4 2 rfl rfl)
theorem dX3_round_97 : decode cX3_round 97 = .ok (.iload_n 2, 1) := dk_28 (dk_at dksX3_round_4 4 rfl rfl)
theorem dX3_round_98 : decode cX3_round 98 = .ok (.iload 5, 2) := dk_21 5 (dk_at dksX3_round_4 5 rfl rfl)
theorem dX3_round_100 : decode cX3_round 100 = .ok (.iadd, 1) := dk_96 (dk_at dksX3_round_4 7 rfl rfl)
theorem dX3_round_101 : decode cX3_round 101 = .ok (.invokevirtual 371, 3) := dk_182 1 115 (dk_at dksX3_round_4 8 rfl rfl)
theorem dX3_round_104 : decode cX3_round 104 = .ok (.imul, 1) := dk_104 (dk_at dksX3_round_4 11 rfl rfl)
theorem dX3_round_105 : decode cX3_round 105 = .ok (.iastore, 1) := dk_79 (dk_at dksX3_round_4 12 rfl rfl)
theorem dX3_round_106 : decode cX3_round 106 = .ok (.iinc 5 1, 3) := dk_132 5 1 (dk_at dksX3_round_4 13 rfl rfl)
theorem dX3_round_109 : decode cX3_round 109 = .ok (.goto (-40), 3) := dk_167 255 216 (dk_at dksX3_round_4 16 rfl rfl)
theorem dX3_round_112 : decode cX3_round 112 = .ok (.iinc 4 1, 3) := dk_132 4 1 (dk_at dksX3_round_4 19 rfl rfl)
theorem dX3_round_115 : decode cX3_round 115 = .ok (.goto (-58), 3) := dk_167 255 198 (dk_at dksX3_round_5 0 rfl rfl)
theorem dX3_round_118 : decode cX3_round 118 = .ok (.aload_n 0, 1) := dk_42 (dk_at dksX3_round_5 3 rfl rfl)
theorem dX3_round_119 : decode cX3_round 119 = .ok (.getfield 92, 3) := dk_180 0 92 (dk_at dksX3_round_5 4 rfl rfl)
theorem dX3_round_122 : decode cX3_round 122 = .ok (.iconst 0, 1) := dk_3 (dk_at dksX3_round_5 7 rfl rfl)
theorem dX3_round_123 : decode cX3_round 123 = .ok (.iload_n 1, 1) := dk_27 (dk_at dksX3_round_5 8 rfl rfl)
theorem dX3_round_124 : decode cX3_round 124 = .ok (.iastore, 1) := dk_79 (dk_at dksX3_round_5 9 rfl rfl)
theorem dX3_round_125 : decode cX3_round 125 = .ok (.iconst 1, 1) := dk_4 (dk_at dksX3_round_5 10 rfl rfl)
theorem dX3_round_126 : decode cX3_round 126 = .ok (.istore 4, 2) := dk_54 4 (dk_at dksX3_round_5 11 rfl rfl)
theorem dX3_round_128 : decode cX3_round 128 = .ok (.iload 4, 2) := dk_21 4 (dk_at dksX3_round_5 13 rfl rfl)
theorem dX3_round_130 : decode cX3_round 130 = .ok (.iload_n 3, 1) := dk_29 (dk_at dksX3_round_5 15 rfl rfl)
theorem dX3_round_131 : decode cX3_round 131 = .ok (.if_icmp .ge 43, 3) := dk_162 0 43 (dk_at dksX3_round_5 16 rfl rfl)
theorem dX3_round_134 : decode cX3_round 134 = .ok (.aload_n 0, 1) := dk_42 (dk_at dksX3_round_5 19 rfl rfl)
theorem dX3_round_135 : decode cX3_round 135 = .ok (.getfield 92, 3) := dk_180 0 92 (dk_at dksX3_round_5 20 rfl rfl)
theorem dX3_round_138 : decode cX3_round 138 = .ok (.iload 4, 2) := dk_21 4 (dk_at dksX3_round_6 0 rfl rfl)
theorem dX3_round_140 : decode cX3_round 140 = .ok (.aload_n 0, 1) := dk_42 (dk_at dksX3_round_6 2 rfl rfl)
theorem dX3_round_141 : decode cX3_round 141 = .ok (.getfield 92, 3) := dk_180 0 92 (dk_at dksX3_round_6 3 rfl rfl)
theorem dX3_round_144 : decode cX3_round 144 = .ok (.iload 4, 2) := dk_21 4 (dk_at dksX3_round_6 6 rfl rfl)
theorem dX3_round_146 : decode cX3_round 146 = .ok (.iconst 1, 1) := dk_4 (dk_at dksX3_round_6 8 rfl rfl)
theorem dX3_round_147 : decode cX3_round 147 = .ok (.isub, 1) := dk_100 (dk_at dksX3_round_6 9 rfl rfl)
theorem dX3_round_148 : decode cX3_round 148 = .ok (.iaload, 1) := dk_46 (dk_at dksX3_round_6 10 rfl rfl)
theorem dX3_round_149 : decode cX3_round 149 = .ok (.ifCond .le 17, 3) := dk_158 0 17 (dk_at dksX3_round_6 11 rfl rfl)
theorem dX3_round_152 : decode cX3_round 152 = .ok (.aload_n 0, 1) := dk_42 (dk_at dksX3_round_6 14 rfl rfl)
theorem dX3_round_153 : decode cX3_round 153 = .ok (.getfield 92, 3) := dk_180 0 92 (dk_at dksX3_round_6 15 rfl rfl)
theorem dX3_round_156 : decode cX3_round 156 = .ok (.iload 4, 2) := dk_21 4 (dk_at dksX3_round_6 18 rfl rfl)
theorem dX3_round_158 : decode cX3_round 158 = .ok (.iconst 1, 1) := dk_4 (dk_at dksX3_round_6 20 rfl rfl)
theorem dX3_round_159 : decode cX3_round 159 = .ok (.isub, 1) := dk_100 (dk_at dksX3_round_6 21 rfl rfl)
theorem dX3_round_160 : decode cX3_round 160 = .ok (.iaload, 1) := dk_46 (dk_at dksX3_round_6 22 rfl rfl)
theorem dX3_round_161 : decode cX3_round 161 = .ok (.iconst 1, 1) := dk_4 (dk_at dksX3_round_6 23 rfl rfl)
theorem dX3_round_162 : decode cX3_round 162 = .ok (.isub, 1) := dk_100 (dk_at dksX3_round_7 0 rfl rfl)
theorem dX3_round_163 : decode cX3_round 163 = .ok (.goto 4, 3) := dk_167 0 4 (dk_at dksX3_round_7 1 rfl rfl)
theorem dX3_round_166 : decode cX3_round 166 = .ok (.iconst 0, 1) := dk_3 (dk_at dksX3_round_7 4 rfl rfl)
theorem dX3_round_167 : decode cX3_round 167 = .ok (.iastore, 1) := dk_79 (dk_at dksX3_round_7 5 rfl rfl)
theorem dX3_round_168 : decode cX3_round 168 = .ok (.iinc 4 1, 3) := dk_132 4 1 (dk_at dksX3_round_7 6 rfl rfl)
theorem dX3_round_171 : decode cX3_round 171 = .ok (.goto (-43), 3) := dk_167 255 213 (dk_at dksX3_round_7 9 rfl rfl)
theorem dX3_round_174 : decode cX3_round 174 = .ok (.iconst (-1), 1) := dk_2 (dk_at dksX3_round_7 12 rfl rfl)
theorem dX3_round_175 : decode cX3_round 175 = .ok (.istore 4, 2) := dk_54 4 (dk_at dksX3_round_7 13 rfl rfl)
theorem dX3_round_177 : decode cX3_round 177 = .ok (.iconst 1, 1) := dk_4 (dk_at dksX3_round_7 15 rfl rfl)
theorem dX3_round_178 : decode cX3_round 178 = .ok (.istore 5, 2) := dk_54 5 (dk_at dksX3_round_7 16 rfl rfl)
theorem dX3_round_180 : decode cX3_round 180 = .ok (.iload 5, 2) := dk_21 5 (dk_at dksX3_round_7 18 rfl rfl)
theorem dX3_round_182 : decode cX3_round 182 = .ok (.ifCond .eq 87, 3) := dk_153 0 87 (dk_at dksX3_round_7 20 rfl rfl)
theorem dX3_round_185 : decode cX3_round 185 = .ok (.aload_n 0, 1) := dk_42 (dk_at dksX3_round_7 23 rfl rfl)
theorem dX3_round_186 : decode cX3_round 186 = .ok (.iload_n 3, 1) := dk_29 (dk_at dksX3_round_8 0 rfl rfl)
theorem dX3_round_187 : decode cX3_round 187 = .ok (.invokevirtual 377, 3) := dk_182 1 121 (dk_at dksX3_round_8 1 rfl rfl)
theorem dX3_round_190 : decode cX3_round 190 = .ok (.istore 6, 2) := dk_54 6 (dk_at dksX3_round_8 4 rfl rfl)
theorem dX3_round_192 : decode cX3_round 192 = .ok (.iload 6, 2) := dk_21 6 (dk_at dksX3_round_8 6 rfl rfl)
theorem dX3_round_194 : decode cX3_round 194 = .ok (.iload 4, 2) := dk_21 4 (dk_at dksX3_round_8 8 rfl rfl)
theorem dX3_round_196 : decode cX3_round 196 = .ok (.if_icmp .le 63, 3) := dk_164 0 63 (dk_at dksX3_round_8 10 rfl rfl)
theorem dX3_round_199 : decode cX3_round 199 = .ok (.iload 6, 2) := dk_21 6 (dk_at dksX3_round_8 13 rfl rfl)
theorem dX3_round_201 : decode cX3_round 201 = .ok (.istore 4, 2) := dk_54 4 (dk_at dksX3_round_8 15 rfl rfl)
theorem dX3_round_203 : decode cX3_round 203 = .ok (.aload_n 0, 1) := dk_42 (dk_at dksX3_round_8 17 rfl rfl)
theorem dX3_round_204 : decode cX3_round 204 = .ok (.aload_n 0, 1) := dk_42 (dk_at dksX3_round_8 18 rfl rfl)
theorem dX3_round_205 : decode cX3_round 205 = .ok (.getfield 92, 3) := dk_180 0 92 (dk_at dksX3_round_8 19 rfl rfl)
theorem dX3_round_208 : decode cX3_round 208 = .ok (.aload_n 0, 1) := dk_42 (dk_at dksX3_round_8 22 rfl rfl)
theorem dX3_round_209 : decode cX3_round 209 = .ok (.getfield 95, 3) := dk_180 0 95 (dk_at dksX3_round_9 0 rfl rfl)
theorem dX3_round_212 : decode cX3_round 212 = .ok (.invokevirtual 260, 3) := dk_182 1 4 (dk_at dksX3_round_9 3 rfl rfl)
theorem dX3_round_215 : decode cX3_round 215 = .ok (.iconst 0, 1) := dk_3 (dk_at dksX3_round_9 6 rfl rfl)
theorem dX3_round_216 : decode cX3_round 216 = .ok (.istore 7, 2) := dk_54 7 (dk_at dksX3_round_9 7 rfl rfl)
theorem dX3_round_218 : decode cX3_round 218 = .ok (.iload 7, 2) := dk_21 7 (dk_at dksX3_round_9 9 rfl rfl)
theorem dX3_round_220 : decode cX3_round 220 = .ok (.iload_n 3, 1) := dk_29 (dk_at dksX3_round_9 11 rfl rfl)
theorem dX3_round_221 : decode cX3_round 221 = .ok (.if_icmp .ge 38, 3) := dk_162 0 38 (dk_at dksX3_round_9 12 rfl rfl)
theorem dX3_round_224 : decode cX3_round 224 = .ok (.aload_n 0, 1) := dk_42 (dk_at dksX3_round_9 15 rfl rfl)
theorem dX3_round_225 : decode cX3_round 225 = .ok (.getfield 98, 3) := dk_180 0 98 (dk_at dksX3_round_9 16 rfl rfl)
theorem dX3_round_228 : decode cX3_round 228 = .ok (.iload 7, 2) := dk_21 7 (dk_at dksX3_round_9 19 rfl rfl)
theorem dX3_round_230 : decode cX3_round 230 = .ok (.aload_n 0, 1) := dk_42 (dk_at dksX3_round_9 21 rfl rfl)
theorem dX3_round_231 : decode cX3_round 231 = .ok (.aload_n 0, 1) := dk_42 (dk_at dksX3_round_9 22 rfl rfl)
theorem dX3_round_232 : decode cX3_round 232 = .ok (.getfield 92, 3) := dk_180 0 92 (dk_at dksX3_round_10 0 rfl rfl)
theorem dX3_round_235 : decode cX3_round 235 = .ok (.iload 7, 2) := dk_21 7 (dk_at dksX3_round_10 3 rfl rfl)
theorem dX3_round_237 : decode cX3_round 237 = .ok (.iaload, 1) := dk_46 (dk_at dksX3_round_10 5 rfl rfl)
theorem dX3_round_238 : decode cX3_round 238 = .ok (.iload_n 3, 1) := dk_29 (dk_at dksX3_round_10 6 rfl rfl)
theorem dX3_round_239 : decode cX3_round 239 = .ok (.invokevirtual 374, 3) := dk_182 1 118 (dk_at dksX3_round_10 7 rfl rfl)
theorem dX3_round_242 : decode cX3_round 242 = .ok (.iload 7, 2) := dk_21 7 (dk_at dksX3_round_10 10 rfl rfl)
theorem dX3_round_244 : decode cX3_round 244 = .ok (.if_icmp .ne 7, 3) := dk_160 0 7 (dk_at dksX3_round_10 12 rfl rfl)
theorem dX3_round_247 : decode cX3_round 247 = .ok (.iconst 1, 1) := dk_4 (dk_at dksX3_round_10 15 rfl rfl)
theorem dX3_round_248 : decode cX3_round 248 = .ok (.goto 4, 3) := dk_167 0 4 (dk_at dksX3_round_10 16 rfl rfl)
theorem dX3_round_251 : decode cX3_round 251 = .ok (.iconst 0, 1) := dk_3 (dk_at dksX3_round_10 19 rfl rfl)
theorem dX3_round_252 : decode cX3_round 252 = .ok (.iastore, 1) := dk_79 (dk_at dksX3_round_10 20 rfl rfl)
theorem dX3_round_253 : decode cX3_round 253 = .ok (.iinc 7 1, 3) := dk_132 7 1 (dk_at dksX3_round_10 21 rfl rfl)
theorem dX3_round_256 : decode cX3_round 256 = .ok (.goto (-38), 3) := dk_167 255 218 (dk_at dksX3_round_11 0 rfl rfl)
theorem dX3_round_259 : decode cX3_round 259 = .ok (.aload_n 0, 1) := dk_42 (dk_at dksX3_round_11 3 rfl rfl)
theorem dX3_round_260 : decode cX3_round 260 = .ok (.iload_n 3, 1) := dk_29 (dk_at dksX3_round_11 4 rfl rfl)
theorem dX3_round_261 : decode cX3_round 261 = .ok (.invokevirtual 380, 3) := dk_182 1 124 (dk_at dksX3_round_11 5 rfl rfl)
theorem dX3_round_264 : decode cX3_round 264 = .ok (.istore 5, 2) := dk_54 5 (dk_at dksX3_round_11 8 rfl rfl)
theorem dX3_round_266 : decode cX3_round 266 = .ok (.goto (-86), 3) := dk_167 255 170 (dk_at dksX3_round_11 10 rfl rfl)
theorem dX3_round_269 : decode cX3_round 269 = .ok (.aload_n 0, 1) := dk_42 (dk_at dksX3_round_11 13 rfl rfl)
theorem dX3_round_270 : decode cX3_round 270 = .ok (.iload_n 3, 1) := dk_29 (dk_at dksX3_round_11 14 rfl rfl)
theorem dX3_round_271 : decode cX3_round 271 = .ok (.putfield 270, 3) := dk_181 1 14 (dk_at dksX3_round_11 15 rfl rfl)
theorem dX3_round_274 : decode cX3_round 274 = .ok (.iload 4, 2) := dk_21 4 (dk_at dksX3_round_11 18 rfl rfl)
theorem dX3_round_276 : decode cX3_round 276 = .ok (.ireturn, 1) := dk_172 (dk_at dksX3_round_11 20 rfl rfl)
def dkwX3_all_2 : List UInt8 := [167, 255, 212, 28, 172]
abbrev dktX3_all_2 : List UInt8 := dkwX3_all_2 ++ []
def dkwX3_all_1 : List UInt8 := [160, 0, 7, 3, 167, 0, 15, 42, 180, 0, 89, 16, 6, 29, 104, 21, 4, 96, 46, 96, 61, 132, 3, 1]
abbrev dktX3_all_1 : List UInt8 := dkwX3_all_1 ++ dktX3_all_2
def dkwX3_all_0 : List UInt8 := [3, 61, 3, 62, 29, 42, 180, 0, 248, 162, 0, 42, 42, 29, 27, 182, 1, 118, 54, 4, 28, 21, 4, 2]
abbrev dktX3_all_0 : List UInt8 := dkwX3_all_0 ++ dktX3_all_1
theorem dksX3_all_0 : cX3_all.data.toList.drop 0 = dktX3_all_0 := by decide +kernel
theorem dksX3_all_1 : cX3_all.data.toList.drop 24 = dktX3_all_1 := dk_seg dksX3_all_0 24 rfl rfl
theorem dksX3_all_2 : cX3_all.data.toList.drop 48 = dktX3_all_2 := dk_seg dksX3_all_1 24 rfl rfl
theorem dX3_all_0 : decode cX3_all 0 = .ok (.iconst 0, 1) := dk_3 (dk_at dksX3_all_0 0 rfl rfl)
theorem dX3_all_1 : decode cX3_all 1 = .ok (.istore_n 2, 1) := dk_61 (dk_at dksX3_all_0 1 rfl rfl)
theorem dX3_all_2 : decode cX3_all 2 = .ok (.iconst 0, 1) := dk_3 (dk_at dksX3_all_0 2 rfl rfl)
theorem dX3_all_3 : decode cX3_all 3 = .ok (.istore_n 3, 1) := dk_62 (dk_at dksX3_all_0 3 rfl rfl)
theorem dX3_all_4 : decode cX3_all 4 = .ok (.iload_n 3, 1) := dk_29 (dk_at dksX3_all_0 4 rfl rfl)
theorem dX3_all_5 : decode cX3_all 5 = .ok (.aload_n 0, 1) := dk_42 (dk_at dksX3_all_0 5 rfl rfl)
theorem dX3_all_6 : decode cX3_all 6 = .ok (.getfield 248, 3) := dk_180 0 248 (dk_at dksX3_all_0 6 rfl rfl)
theorem dX3_all_9 : decode cX3_all 9 = .ok (.if_icmp .ge 42, 3) := dk_162 0 42 (dk_at dksX3_all_0 9 rfl rfl)
theorem dX3_all_12 : decode cX3_all 12 = .ok (.aload_n 0, 1) := dk_42 (dk_at dksX3_all_0 12 rfl rfl)
theorem dX3_all_13 : decode cX3_all 13 = .ok (.iload_n 3, 1) := dk_29 (dk_at dksX3_all_0 13 rfl rfl)
theorem dX3_all_14 : decode cX3_all 14 = .ok (.iload_n 1, 1) := dk_27 (dk_at dksX3_all_0 14 rfl rfl)
theorem dX3_all_15 : decode cX3_all 15 = .ok (.invokevirtual 374, 3) := dk_182 1 118 (dk_at dksX3_all_0 15 rfl rfl)
theorem dX3_all_18 : decode cX3_all 18 = .ok (.istore 4, 2) := dk_54 4 (dk_at dksX3_all_0 18 rfl rfl)
theorem dX3_all_20 : decode cX3_all 20 = .ok (.iload_n 2, 1) := dk_28 (dk_at dksX3_all_0 20 rfl rfl)
theorem dX3_all_21 : decode cX3_all 21 = .ok (.iload 4, 2) := dk_21 4 (dk_at dksX3_all_0 21 rfl rfl)
theorem dX3_all_23 : decode cX3_all 23 = .ok (.iconst (-1), 1) := dk_2 (dk_at dksX3_all_0 23 rfl rfl)
theorem dX3_all_24 : decode cX3_all 24 = .ok (.if_icmp .ne 7, 3) := dk_160 0 7 (dk_at dksX3_all_1 0 rfl rfl)
theorem dX3_all_27 : decode cX3_all 27 = .ok (.iconst 0, 1) := dk_3 (dk_at dksX3_all_1 3 rfl rfl)
theorem dX3_all_28 : decode cX3_all 28 = .ok (.goto 15, 3) := dk_167 0 15 (dk_at dksX3_all_1 4 rfl rfl)
theorem dX3_all_31 : decode cX3_all 31 = .ok (.aload_n 0, 1) := dk_42 (dk_at dksX3_all_1 7 rfl rfl)
theorem dX3_all_32 : decode cX3_all 32 = .ok (.getfield 89, 3) := dk_180 0 89 (dk_at dksX3_all_1 8 rfl rfl)
theorem dX3_all_35 : decode cX3_all 35 = .ok (.bipush 6, 2) := dk_16 6 (dk_at dksX3_all_1 11 rfl rfl)
theorem dX3_all_37 : decode cX3_all 37 = .ok (.iload_n 3, 1) := dk_29 (dk_at dksX3_all_1 13 rfl rfl)
theorem dX3_all_38 : decode cX3_all 38 = .ok (.imul, 1) := dk_104 (dk_at dksX3_all_1 14 rfl rfl)
theorem dX3_all_39 : decode cX3_all 39 = .ok (.iload 4, 2) := dk_21 4 (dk_at dksX3_all_1 15 rfl rfl)
theorem dX3_all_41 : decode cX3_all 41 = .ok (.iadd, 1) := dk_96 (dk_at dksX3_all_1 17 rfl rfl)
theorem dX3_all_42 : decode cX3_all 42 = .ok (.iaload, 1) := dk_46 (dk_at dksX3_all_1 18 rfl rfl)
theorem dX3_all_43 : decode cX3_all 43 = .ok (.iadd, 1) := dk_96 (dk_at dksX3_all_1 19 rfl rfl)
theorem dX3_all_44 : decode cX3_all 44 = .ok (.istore_n 2, 1) := dk_61 (dk_at dksX3_all_1 20 rfl rfl)
theorem dX3_all_45 : decode cX3_all 45 = .ok (.iinc 3 1, 3) := dk_132 3 1 (dk_at dksX3_all_1 21 rfl rfl)
theorem dX3_all_48 : decode cX3_all 48 = .ok (.goto (-44), 3) := dk_167 255 212 (dk_at dksX3_all_2 0 rfl rfl)
theorem dX3_all_51 : decode cX3_all 51 = .ok (.iload_n 2, 1) := dk_28 (dk_at dksX3_all_2 3 rfl rfl)
theorem dX3_all_52 : decode cX3_all 52 = .ok (.ireturn, 1) := dk_172 (dk_at dksX3_all_2 4 rfl rfl)
def dkwX3_bestOf_3 : List UInt8 := [164, 0, 6, 21, 4, 62, 132, 4, 1, 167, 255, 184, 29, 172]
abbrev dktX3_bestOf_3 : List UInt8 := dkwX3_bestOf_3 ++ []
def dkwX3_bestOf_2 : List UInt8 := [180, 0, 89, 16, 6, 27, 104, 21, 4, 96, 46, 42, 180, 0, 89, 16, 6, 27, 104, 29, 96, 46]
abbrev dktX3_bestOf_2 : List UInt8 := dkwX3_bestOf_2 ++ dktX3_bestOf_3
def dkwX3_bestOf_1 : List UInt8 := [180, 0, 89, 16, 6, 27, 104, 21, 4, 96, 46, 154, 0, 6, 167, 0, 37, 29, 2, 159, 0, 29, 42]
abbrev dktX3_bestOf_1 : List UInt8 := dkwX3_bestOf_1 ++ dktX3_bestOf_2
def dkwX3_bestOf_0 : List UInt8 := [2, 62, 3, 54, 4, 21, 4, 28, 162, 0, 72, 42, 180, 0, 92, 21, 4, 46, 27, 160, 0, 55, 42]
abbrev dktX3_bestOf_0 : List UInt8 := dkwX3_bestOf_0 ++ dktX3_bestOf_1
theorem dksX3_bestOf_0 : cX3_bestOf.data.toList.drop 0 = dktX3_bestOf_0 := by decide +kernel
theorem dksX3_bestOf_1 : cX3_bestOf.data.toList.drop 23 = dktX3_bestOf_1 := dk_seg dksX3_bestOf_0 23 rfl rfl
theorem dksX3_bestOf_2 : cX3_bestOf.data.toList.drop 46 = dktX3_bestOf_2 := dk_seg dksX3_bestOf_1 23 rfl rfl
theorem dksX3_bestOf_3 : cX3_bestOf.data.toList.drop 68 = dktX3_bestOf_3 := dk_seg dksX3_bestOf_2 22 rfl rfl
theorem dX3_bestOf_0 : decode cX3_bestOf 0 = .ok (.iconst (-1), 1) := dk_2 (dk_at dksX3_bestOf_0 0 rfl rfl)
theorem dX3_bestOf_1 : decode cX3_bestOf 1 = .ok (.istore_n 3, 1) := dk_62 (dk_at dksX3_bestOf_0 1 rfl rfl)
theorem dX3_bestOf_2 : decode cX3_bestOf 2 = .ok (.iconst 0, 1) := dk_3 (dk_at dksX3_bestOf_0 2 rfl rfl)
theorem dX3_bestOf_3 : decode cX3_bestOf 3 = .ok (.istore 4, 2) := dk_54 4 (dk_at dksX3_bestOf_0 3 rfl rfl)
theorem dX3_bestOf_5 : decode cX3_bestOf 5 = .ok (.iload 4, 2) := dk_21 4 (dk_at dksX3_bestOf_0 5 rfl rfl)
theorem dX3_bestOf_7 : decode cX3_bestOf 7 = .ok (.iload_n 2, 1) := dk_28 (dk_at dksX3_bestOf_0 7 rfl rfl)
theorem dX3_bestOf_8 : decode cX3_bestOf 8 = .ok (.if_icmp .ge 72, 3) := dk_162 0 72 (dk_at dksX3_bestOf_0 8 rfl rfl)
theorem dX3_bestOf_11 : decode cX3_bestOf 11 = .ok (.aload_n 0, 1) := dk_42 (dk_at dksX3_bestOf_0 11 rfl rfl)
theorem dX3_bestOf_12 : decode cX3_bestOf 12 = .ok (.getfield 92, 3) := dk_180 0 92 (dk_at dksX3_bestOf_0 12 rfl rfl)
theorem dX3_bestOf_15 : decode cX3_bestOf 15 = .ok (.iload 4, 2) := dk_21 4 (dk_at dksX3_bestOf_0 15 rfl rfl)
theorem dX3_bestOf_17 : decode cX3_bestOf 17 = .ok (.iaload, 1) := dk_46 (dk_at dksX3_bestOf_0 17 rfl rfl)
theorem dX3_bestOf_18 : decode cX3_bestOf 18 = .ok (.iload_n 1, 1) := dk_27 (dk_at dksX3_bestOf_0 18 rfl rfl)
theorem dX3_bestOf_19 : decode cX3_bestOf 19 = .ok (.if_icmp .ne 55, 3) := dk_160 0 55 (dk_at dksX3_bestOf_0 19 rfl rfl)
theorem dX3_bestOf_22 : decode cX3_bestOf 22 = .ok (.aload_n 0, 1) := dk_42 (dk_at dksX3_bestOf_0 22 rfl rfl)
theorem dX3_bestOf_23 : decode cX3_bestOf 23 = .ok (.getfield 89, 3) := dk_180 0 89 (dk_at dksX3_bestOf_1 0 rfl rfl)
theorem dX3_bestOf_26 : decode cX3_bestOf 26 = .ok (.bipush 6, 2) := dk_16 6 (dk_at dksX3_bestOf_1 3 rfl rfl)
theorem dX3_bestOf_28 : decode cX3_bestOf 28 = .ok (.iload_n 1, 1) := dk_27 (dk_at dksX3_bestOf_1 5 rfl rfl)
theorem dX3_bestOf_29 : decode cX3_bestOf 29 = .ok (.imul, 1) := dk_104 (dk_at dksX3_bestOf_1 6 rfl rfl)
theorem dX3_bestOf_30 : decode cX3_bestOf 30 = .ok (.iload 4, 2) := dk_21 4 (dk_at dksX3_bestOf_1 7 rfl rfl)
theorem dX3_bestOf_32 : decode cX3_bestOf 32 = .ok (.iadd, 1) := dk_96 (dk_at dksX3_bestOf_1 9 rfl rfl)
theorem dX3_bestOf_33 : decode cX3_bestOf 33 = .ok (.iaload, 1) := dk_46 (dk_at dksX3_bestOf_1 10 rfl rfl)
theorem dX3_bestOf_34 : decode cX3_bestOf 34 = .ok (.ifCond .ne 6, 3) := dk_154 0 6 (dk_at dksX3_bestOf_1 11 rfl rfl)
theorem dX3_bestOf_37 : decode cX3_bestOf 37 = .ok (.goto 37, 3) := dk_167 0 37 (dk_at dksX3_bestOf_1 14 rfl rfl)
theorem dX3_bestOf_40 : decode cX3_bestOf 40 = .ok (.iload_n 3, 1) := dk_29 (dk_at dksX3_bestOf_1 17 rfl rfl)
theorem dX3_bestOf_41 : decode cX3_bestOf 41 = .ok (.iconst (-1), 1) := dk_2 (dk_at dksX3_bestOf_1 18 rfl rfl)
theorem dX3_bestOf_42 : decode cX3_bestOf 42 = .ok (.if_icmp .eq 29, 3) := dk_159 0 29 (dk_at dksX3_bestOf_1 19 rfl rfl)
theorem dX3_bestOf_45 : decode cX3_bestOf 45 = .ok (.aload_n 0, 1) := dk_42 (dk_at dksX3_bestOf_1 22 rfl rfl)
theorem dX3_bestOf_46 : decode cX3_bestOf 46 = .ok (.getfield 89, 3) := dk_180 0 89 (dk_at dksX3_bestOf_2 0 rfl rfl)
theorem dX3_bestOf_49 : decode cX3_bestOf 49 = .ok (.bipush 6, 2) := dk_16 6 (dk_at dksX3_bestOf_2 3 rfl rfl)
theorem dX3_bestOf_51 : decode cX3_bestOf 51 = .ok (.iload_n 1, 1) := dk_27 (dk_at dksX3_bestOf_2 5 rfl rfl)
theorem dX3_bestOf_52 : decode cX3_bestOf 52 = .ok (.imul, 1) := dk_104 (dk_at dksX3_bestOf_2 6 rfl rfl)
theorem dX3_bestOf_53 : decode cX3_bestOf 53 = .ok (.iload 4, 2) := dk_21 4 (dk_at dksX3_bestOf_2 7 rfl rfl)
theorem dX3_bestOf_55 : decode cX3_bestOf 55 = .ok (.iadd, 1) := dk_96 (dk_at dksX3_bestOf_2 9 rfl rfl)
theorem dX3_bestOf_56 : decode cX3_bestOf 56 = .ok (.iaload, 1) := dk_46 (dk_at dksX3_bestOf_2 10 rfl rfl)
theorem dX3_bestOf_57 : decode cX3_bestOf 57 = .ok (.aload_n 0, 1) := dk_42 (dk_at dksX3_bestOf_2 11 rfl rfl)
theorem dX3_bestOf_58 : decode cX3_bestOf 58 = .ok (.getfield 89, 3) := dk_180 0 89 (dk_at dksX3_bestOf_2 12 rfl rfl)
theorem dX3_bestOf_61 : decode cX3_bestOf 61 = .ok (.bipush 6, 2) := dk_16 6 (dk_at dksX3_bestOf_2 15 rfl rfl)
theorem dX3_bestOf_63 : decode cX3_bestOf 63 = .ok (.iload_n 1, 1) := dk_27 (dk_at dksX3_bestOf_2 17 rfl rfl)
theorem dX3_bestOf_64 : decode cX3_bestOf 64 = .ok (.imul, 1) := dk_104 (dk_at dksX3_bestOf_2 18 rfl rfl)
theorem dX3_bestOf_65 : decode cX3_bestOf 65 = .ok (.iload_n 3, 1) := dk_29 (dk_at dksX3_bestOf_2 19 rfl rfl)
theorem dX3_bestOf_66 : decode cX3_bestOf 66 = .ok (.iadd, 1) := dk_96 (dk_at dksX3_bestOf_2 20 rfl rfl)
theorem dX3_bestOf_67 : decode cX3_bestOf 67 = .ok (.iaload, 1) := dk_46 (dk_at dksX3_bestOf_2 21 rfl rfl)
theorem dX3_bestOf_68 : decode cX3_bestOf 68 = .ok (.if_icmp .le 6, 3) := dk_164 0 6 (dk_at dksX3_bestOf_3 0 rfl rfl)
theorem dX3_bestOf_71 : decode cX3_bestOf 71 = .ok (.iload 4, 2) := dk_21 4 (dk_at dksX3_bestOf_3 3 rfl rfl)
theorem dX3_bestOf_73 : decode cX3_bestOf 73 = .ok (.istore_n 3, 1) := dk_62 (dk_at dksX3_bestOf_3 5 rfl rfl)
theorem dX3_bestOf_74 : decode cX3_bestOf 74 = .ok (.iinc 4 1, 3) := dk_132 4 1 (dk_at dksX3_bestOf_3 6 rfl rfl)
theorem dX3_bestOf_77 : decode cX3_bestOf 77 = .ok (.goto (-72), 3) := dk_167 255 184 (dk_at dksX3_bestOf_3 9 rfl rfl)
theorem dX3_bestOf_80 : decode cX3_bestOf 80 = .ok (.iload_n 3, 1) := dk_29 (dk_at dksX3_bestOf_3 12 rfl rfl)
theorem dX3_bestOf_81 : decode cX3_bestOf 81 = .ok (.ireturn, 1) := dk_172 (dk_at dksX3_bestOf_3 13 rfl rfl)
def dkwX3_turnsPath_5 : List UInt8 := [167, 255, 213, 4, 172, 132, 2, 255, 167, 255, 136, 3, 172]
abbrev dktX3_turnsPath_5 : List UInt8 := dkwX3_turnsPath_5 ++ []
def dkwX3_turnsPath_4 : List UInt8 := [158, 0, 17, 42, 180, 0, 92, 21, 4, 4, 100, 46, 4, 100, 167, 0, 4, 3, 79, 132, 4, 1]
abbrev dktX3_turnsPath_4 : List UInt8 := dkwX3_turnsPath_4 ++ dktX3_turnsPath_5
def dkwX3_turnsPath_3 : List UInt8 := [96, 54, 4, 21, 4, 27, 162, 0, 43, 42, 180, 0, 92, 21, 4, 42, 180, 0, 92, 21, 4, 4, 100, 46]
abbrev dktX3_turnsPath_3 : List UInt8 := dkwX3_turnsPath_3 ++ dktX3_turnsPath_4
def dkwX3_turnsPath_2 : List UInt8 := [180, 0, 92, 28, 46, 29, 160, 0, 6, 167, 0, 66, 42, 180, 0, 92, 28, 92, 46, 4, 96, 79, 28, 4]
abbrev dktX3_turnsPath_2 : List UInt8 := dkwX3_turnsPath_2 ++ dktX3_turnsPath_3
def dkwX3_turnsPath_1 : List UInt8 := [162, 0, 16, 42, 180, 0, 92, 28, 4, 100, 46, 4, 96, 167, 0, 9, 42, 180, 0, 248, 4, 100, 62, 42]
abbrev dktX3_turnsPath_1 : List UInt8 := dkwX3_turnsPath_1 ++ dktX3_turnsPath_2
def dkwX3_turnsPath_0 : List UInt8 := [27, 4, 100, 61, 28, 158, 0, 122, 42, 180, 0, 92, 28, 4, 100, 46, 4, 96, 42, 180, 0, 248]
abbrev dktX3_turnsPath_0 : List UInt8 := dkwX3_turnsPath_0 ++ dktX3_turnsPath_1
theorem dksX3_turnsPath_0 : cX3_turnsPath.data.toList.drop 0 = dktX3_turnsPath_0 := by decide +kernel
theorem dksX3_turnsPath_1 : cX3_turnsPath.data.toList.drop 22 = dktX3_turnsPath_1 := dk_seg dksX3_turnsPath_0 22 rfl rfl
theorem dksX3_turnsPath_2 : cX3_turnsPath.data.toList.drop 46 = dktX3_turnsPath_2 := dk_seg dksX3_turnsPath_1 24 rfl rfl
theorem dksX3_turnsPath_3 : cX3_turnsPath.data.toList.drop 70 = dktX3_turnsPath_3 := dk_seg dksX3_turnsPath_2 24 rfl rfl
theorem dksX3_turnsPath_4 : cX3_turnsPath.data.toList.drop 94 = dktX3_turnsPath_4 := dk_seg dksX3_turnsPath_3 24 rfl rfl
theorem dksX3_turnsPath_5 : cX3_turnsPath.data.toList.drop 116 = dktX3_turnsPath_5 := dk_seg dksX3_turnsPath_4 22 rfl rfl
theorem dX3_turnsPath_0 : decode cX3_turnsPath 0 = .ok (.iload_n 1, 1) := dk_27 (dk_at dksX3_turnsPath_0 0 rfl rfl)
theorem dX3_turnsPath_1 : decode cX3_turnsPath 1 = .ok (.iconst 1, 1) := dk_4 (dk_at dksX3_turnsPath_0 1 rfl rfl)
theorem dX3_turnsPath_2 : decode cX3_turnsPath 2 = .ok (.isub, 1) := dk_100 (dk_at dksX3_turnsPath_0 2 rfl rfl)
theorem dX3_turnsPath_3 : decode cX3_turnsPath 3 = .ok (.istore_n 2, 1) := dk_61 (dk_at dksX3_turnsPath_0 3 rfl rfl)
theorem dX3_turnsPath_4 : decode cX3_turnsPath 4 = .ok (.iload_n 2, 1) := dk_28 (dk_at dksX3_turnsPath_0 4 rfl rfl)
theorem dX3_turnsPath_5 : decode cX3_turnsPath 5 = .ok (.ifCond .le 122, 3) := dk_158 0 122 (dk_at dksX3_turnsPath_0 5 rfl rfl)
theorem dX3_turnsPath_8 : decode cX3_turnsPath 8 = .ok (.aload_n 0, 1) := dk_42 (dk_at dksX3_turnsPath_0 8 rfl rfl)
theorem dX3_turnsPath_9 : decode cX3_turnsPath 9 = .ok (.getfield 92, 3) := dk_180 0 92 (dk_at dksX3_turnsPath_0 9 rfl rfl)
theorem dX3_turnsPath_12 : decode cX3_turnsPath 12 = .ok (.iload_n 2, 1) := dk_28 (dk_at dksX3_turnsPath_0 12 rfl rfl)
theorem dX3_turnsPath_13 : decode cX3_turnsPath 13 = .ok (.iconst 1, 1) := dk_4 (dk_at dksX3_turnsPath_0 13 rfl rfl)
theorem dX3_turnsPath_14 : decode cX3_turnsPath 14 = .ok (.isub, 1) := dk_100 (dk_at dksX3_turnsPath_0 14 rfl rfl)
theorem dX3_turnsPath_15 : decode cX3_turnsPath 15 = .ok (.iaload, 1) := dk_46 (dk_at dksX3_turnsPath_0 15 rfl rfl)
theorem dX3_turnsPath_16 : decode cX3_turnsPath 16 = .ok (.iconst 1, 1) := dk_4 (dk_at dksX3_turnsPath_0 16 rfl rfl)
theorem dX3_turnsPath_17 : decode cX3_turnsPath 17 = .ok (.iadd, 1) := dk_96 (dk_at dksX3_turnsPath_0 17 rfl rfl)
theorem dX3_turnsPath_18 : decode cX3_turnsPath 18 = .ok (.aload_n 0, 1) := dk_42 (dk_at dksX3_turnsPath_0 18 rfl rfl)
theorem dX3_turnsPath_19 : decode cX3_turnsPath 19 = .ok (.getfield 248, 3) := dk_180 0 248 (dk_at dksX3_turnsPath_0 19 rfl rfl)
theorem dX3_turnsPath_22 : decode cX3_turnsPath 22 = .ok (.if_icmp .ge 16, 3) := dk_162 0 16 (dk_at dksX3_turnsPath_1 0 rfl rfl)
theorem dX3_turnsPath_25 : decode cX3_turnsPath 25 = .ok (.aload_n 0, 1) := dk_42 (dk_at dksX3_turnsPath_1 3 rfl rfl)
theorem dX3_turnsPath_26 : decode cX3_turnsPath 26 = .ok (.getfield 92, 3) := dk_180 0 92 (dk_at dksX3_turnsPath_1 4 rfl rfl)
theorem dX3_turnsPath_29 : decode cX3_turnsPath 29 = .ok (.iload_n 2, 1) := dk_28 (dk_at dksX3_turnsPath_1 7 rfl rfl)
theorem dX3_turnsPath_30 : decode cX3_turnsPath 30 = .ok (.iconst 1, 1) := dk_4 (dk_at dksX3_turnsPath_1 8 rfl rfl)
theorem dX3_turnsPath_31 : decode cX3_turnsPath 31 = .ok (.isub, 1) := dk_100 (dk_at dksX3_turnsPath_1 9 rfl rfl)
theorem dX3_turnsPath_32 : decode cX3_turnsPath 32 = .ok (.iaload, 1) := dk_46 (dk_at dksX3_turnsPath_1 10 rfl rfl)
theorem dX3_turnsPath_33 : decode cX3_turnsPath 33 = .ok (.iconst 1, 1) := dk_4 (dk_at dksX3_turnsPath_1 11 rfl rfl)
theorem dX3_turnsPath_34 : decode cX3_turnsPath 34 = .ok (.iadd, 1) := dk_96 (dk_at dksX3_turnsPath_1 12 rfl rfl)
theorem dX3_turnsPath_35 : decode cX3_turnsPath 35 = .ok (.goto 9, 3) := dk_167 0 9 (dk_at dksX3_turnsPath_1 13 rfl rfl)
theorem dX3_turnsPath_38 : decode cX3_turnsPath 38 = .ok (.aload_n 0, 1) := dk_42 (dk_at dksX3_turnsPath_1 16 rfl rfl)
theorem dX3_turnsPath_39 : decode cX3_turnsPath 39 = .ok (.getfield 248, 3) := dk_180 0 248 (dk_at dksX3_turnsPath_1 17 rfl rfl)
theorem dX3_turnsPath_42 : decode cX3_turnsPath 42 = .ok (.iconst 1, 1) := dk_4 (dk_at dksX3_turnsPath_1 20 rfl rfl)
theorem dX3_turnsPath_43 : decode cX3_turnsPath 43 = .ok (.isub, 1) := dk_100 (dk_at dksX3_turnsPath_1 21 rfl rfl)
theorem dX3_turnsPath_44 : decode cX3_turnsPath 44 = .ok (.istore_n 3, 1) := dk_62 (dk_at dksX3_turnsPath_1 22 rfl rfl)
theorem dX3_turnsPath_45 : decode cX3_turnsPath 45 = .ok (.aload_n 0, 1) := dk_42 (dk_at dksX3_turnsPath_1 23 rfl rfl)
theorem dX3_turnsPath_46 : decode cX3_turnsPath 46 = .ok (.getfield 92, 3) := dk_180 0 92 (dk_at dksX3_turnsPath_2 0 rfl rfl)
theorem dX3_turnsPath_49 : decode cX3_turnsPath 49 = .ok (.iload_n 2, 1) := dk_28 (dk_at dksX3_turnsPath_2 3 rfl rfl)
theorem dX3_turnsPath_50 : decode cX3_turnsPath 50 = .ok (.iaload, 1) := dk_46 (dk_at dksX3_turnsPath_2 4 rfl rfl)
theorem dX3_turnsPath_51 : decode cX3_turnsPath 51 = .ok (.iload_n 3, 1) := dk_29 (dk_at dksX3_turnsPath_2 5 rfl rfl)
theorem dX3_turnsPath_52 : decode cX3_turnsPath 52 = .ok (.if_icmp .ne 6, 3) := dk_160 0 6 (dk_at dksX3_turnsPath_2 6 rfl rfl)
theorem dX3_turnsPath_55 : decode cX3_turnsPath 55 = .ok (.goto 66, 3) := dk_167 0 66 (dk_at dksX3_turnsPath_2 9 rfl rfl)
theorem dX3_turnsPath_58 : decode cX3_turnsPath 58 = .ok (.aload_n 0, 1) := dk_42 (dk_at dksX3_turnsPath_2 12 rfl rfl)
theorem dX3_turnsPath_59 : decode cX3_turnsPath 59 = .ok (.getfield 92, 3) := dk_180 0 92 (dk_at dksX3_turnsPath_2 13 rfl rfl)
theorem dX3_turnsPath_62 : decode cX3_turnsPath 62 = .ok (.iload_n 2, 1) := dk_28 (dk_at dksX3_turnsPath_2 16 rfl rfl)
theorem dX3_turnsPath_63 : decode cX3_turnsPath 63 = .ok (.dup2, 1) := dk_92 (dk_at dksX3_turnsPath_2 17 rfl rfl)
theorem dX3_turnsPath_64 : decode cX3_turnsPath 64 = .ok (.iaload, 1) := dk_46 (dk_at dksX3_turnsPath_2 18 rfl rfl)
theorem dX3_turnsPath_65 : decode cX3_turnsPath 65 = .ok (.iconst 1, 1) := dk_4 (dk_at dksX3_turnsPath_2 19 rfl rfl)
theorem dX3_turnsPath_66 : decode cX3_turnsPath 66 = .ok (.iadd, 1) := dk_96 (dk_at dksX3_turnsPath_2 20 rfl rfl)
theorem dX3_turnsPath_67 : decode cX3_turnsPath 67 = .ok (.iastore, 1) := dk_79 (dk_at dksX3_turnsPath_2 21 rfl rfl)
theorem dX3_turnsPath_68 : decode cX3_turnsPath 68 = .ok (.iload_n 2, 1) := dk_28 (dk_at dksX3_turnsPath_2 22 rfl rfl)
theorem dX3_turnsPath_69 : decode cX3_turnsPath 69 = .ok (.iconst 1, 1) := dk_4 (dk_at dksX3_turnsPath_2 23 rfl rfl)
theorem dX3_turnsPath_70 : decode cX3_turnsPath 70 = .ok (.iadd, 1) := dk_96 (dk_at dksX3_turnsPath_3 0 rfl rfl)
theorem dX3_turnsPath_71 : decode cX3_turnsPath 71 = .ok (.istore 4, 2) := dk_54 4 (dk_at dksX3_turnsPath_3 1 rfl rfl)
theorem dX3_turnsPath_73 : decode cX3_turnsPath 73 = .ok (.iload 4, 2) := dk_21 4 (dk_at dksX3_turnsPath_3 3 rfl rfl)
theorem dX3_turnsPath_75 : decode cX3_turnsPath 75 = .ok (.iload_n 1, 1) := dk_27 (dk_at dksX3_turnsPath_3 5 rfl rfl)
theorem dX3_turnsPath_76 : decode cX3_turnsPath 76 = .ok (.if_icmp .ge 43, 3) := dk_162 0 43 (dk_at dksX3_turnsPath_3 6 rfl rfl)
theorem dX3_turnsPath_79 : decode cX3_turnsPath 79 = .ok (.aload_n 0, 1) := dk_42 (dk_at dksX3_turnsPath_3 9 rfl rfl)
theorem dX3_turnsPath_80 : decode cX3_turnsPath 80 = .ok (.getfield 92, 3) := dk_180 0 92 (dk_at dksX3_turnsPath_3 10 rfl rfl)
theorem dX3_turnsPath_83 : decode cX3_turnsPath 83 = .ok (.iload 4, 2) := dk_21 4 (dk_at dksX3_turnsPath_3 13 rfl rfl)
theorem dX3_turnsPath_85 : decode cX3_turnsPath 85 = .ok (.aload_n 0, 1) := dk_42 (dk_at dksX3_turnsPath_3 15 rfl rfl)
theorem dX3_turnsPath_86 : decode cX3_turnsPath 86 = .ok (.getfield 92, 3) := dk_180 0 92 (dk_at dksX3_turnsPath_3 16 rfl rfl)
theorem dX3_turnsPath_89 : decode cX3_turnsPath 89 = .ok (.iload 4, 2) := dk_21 4 (dk_at dksX3_turnsPath_3 19 rfl rfl)
theorem dX3_turnsPath_91 : decode cX3_turnsPath 91 = .ok (.iconst 1, 1) := dk_4 (dk_at dksX3_turnsPath_3 21 rfl rfl)
theorem dX3_turnsPath_92 : decode cX3_turnsPath 92 = .ok (.isub, 1) := dk_100 (dk_at dksX3_turnsPath_3 22 rfl rfl)
theorem dX3_turnsPath_93 : decode cX3_turnsPath 93 = .ok (.iaload, 1) := dk_46 (dk_at dksX3_turnsPath_3 23 rfl rfl)
theorem dX3_turnsPath_94 : decode cX3_turnsPath 94 = .ok (.ifCond .le 17, 3) := dk_158 0 17 (dk_at dksX3_turnsPath_4 0 rfl rfl)
theorem dX3_turnsPath_97 : decode cX3_turnsPath 97 = .ok (.aload_n 0, 1) := dk_42 (dk_at dksX3_turnsPath_4 3 rfl rfl)
theorem dX3_turnsPath_98 : decode cX3_turnsPath 98 = .ok (.getfield 92, 3) := dk_180 0 92 (dk_at dksX3_turnsPath_4 4 rfl rfl)
theorem dX3_turnsPath_101 : decode cX3_turnsPath 101 = .ok (.iload 4, 2) := dk_21 4 (dk_at dksX3_turnsPath_4 7 rfl rfl)
theorem dX3_turnsPath_103 : decode cX3_turnsPath 103 = .ok (.iconst 1, 1) := dk_4 (dk_at dksX3_turnsPath_4 9 rfl rfl)
theorem dX3_turnsPath_104 : decode cX3_turnsPath 104 = .ok (.isub, 1) := dk_100 (dk_at dksX3_turnsPath_4 10 rfl rfl)
theorem dX3_turnsPath_105 : decode cX3_turnsPath 105 = .ok (.iaload, 1) := dk_46 (dk_at dksX3_turnsPath_4 11 rfl rfl)
theorem dX3_turnsPath_106 : decode cX3_turnsPath 106 = .ok (.iconst 1, 1) := dk_4 (dk_at dksX3_turnsPath_4 12 rfl rfl)
theorem dX3_turnsPath_107 : decode cX3_turnsPath 107 = .ok (.isub, 1) := dk_100 (dk_at dksX3_turnsPath_4 13 rfl rfl)
theorem dX3_turnsPath_108 : decode cX3_turnsPath 108 = .ok (.goto 4, 3) := dk_167 0 4 (dk_at dksX3_turnsPath_4 14 rfl rfl)
theorem dX3_turnsPath_111 : decode cX3_turnsPath 111 = .ok (.iconst 0, 1) := dk_3 (dk_at dksX3_turnsPath_4 17 rfl rfl)
theorem dX3_turnsPath_112 : decode cX3_turnsPath 112 = .ok (.iastore, 1) := dk_79 (dk_at dksX3_turnsPath_4 18 rfl rfl)
theorem dX3_turnsPath_113 : decode cX3_turnsPath 113 = .ok (.iinc 4 1, 3) := dk_132 4 1 (dk_at dksX3_turnsPath_4 19 rfl rfl)
theorem dX3_turnsPath_116 : decode cX3_turnsPath 116 = .ok (.goto (-43), 3) := dk_167 255 213 (dk_at dksX3_turnsPath_5 0 rfl rfl)
theorem dX3_turnsPath_119 : decode cX3_turnsPath 119 = .ok (.iconst 1, 1) := dk_4 (dk_at dksX3_turnsPath_5 3 rfl rfl)
theorem dX3_turnsPath_120 : decode cX3_turnsPath 120 = .ok (.ireturn, 1) := dk_172 (dk_at dksX3_turnsPath_5 4 rfl rfl)
theorem dX3_turnsPath_121 : decode cX3_turnsPath 121 = .ok (.iinc 2 (-1), 3) := dk_132 2 255 (dk_at dksX3_turnsPath_5 5 rfl rfl)
theorem dX3_turnsPath_124 : decode cX3_turnsPath 124 = .ok (.goto (-120), 3) := dk_167 255 136 (dk_at dksX3_turnsPath_5 8 rfl rfl)
theorem dX3_turnsPath_127 : decode cX3_turnsPath 127 = .ok (.iconst 0, 1) := dk_3 (dk_at dksX3_turnsPath_5 11 rfl rfl)
theorem dX3_turnsPath_128 : decode cX3_turnsPath 128 = .ok (.ireturn, 1) := dk_172 (dk_at dksX3_turnsPath_5 12 rfl rfl)
def dkwX3_path_2 : List UInt8 := [27, 46, 167, 0, 9, 42, 180, 0, 98, 27, 46, 172]
abbrev dktX3_path_2 : List UInt8 := dkwX3_path_2 ++ []
def dkwX3_path_1 : List UInt8 := [182, 0, 241, 153, 0, 11, 42, 28, 182, 1, 34, 154, 0, 5, 3, 172, 28, 154, 0, 12, 42, 180, 0, 95]
abbrev dktX3_path_1 : List UInt8 := dkwX3_path_1 ++ dktX3_path_2
def dkwX3_path_0 : List UInt8 := [42, 3, 181, 0, 134, 42, 27, 155, 0, 15, 27, 42, 180, 1, 14, 162, 0, 7, 4, 167, 0, 4, 3, 4]
abbrev dktX3_path_0 : List UInt8 := dkwX3_path_0 ++ dktX3_path_1
theorem dksX3_path_0 : cX3_path.data.toList.drop 0 = dktX3_path_0 := by decide +kernel
theorem dksX3_path_1 : cX3_path.data.toList.drop 24 = dktX3_path_1 := dk_seg dksX3_path_0 24 rfl rfl
theorem dksX3_path_2 : cX3_path.data.toList.drop 48 = dktX3_path_2 := dk_seg dksX3_path_1 24 rfl rfl
theorem dX3_path_0 : decode cX3_path 0 = .ok (.aload_n 0, 1) := dk_42 (dk_at dksX3_path_0 0 rfl rfl)
theorem dX3_path_1 : decode cX3_path 1 = .ok (.iconst 0, 1) := dk_3 (dk_at dksX3_path_0 1 rfl rfl)
theorem dX3_path_2 : decode cX3_path 2 = .ok (.putfield 134, 3) := dk_181 0 134 (dk_at dksX3_path_0 2 rfl rfl)
theorem dX3_path_5 : decode cX3_path 5 = .ok (.aload_n 0, 1) := dk_42 (dk_at dksX3_path_0 5 rfl rfl)
theorem dX3_path_6 : decode cX3_path 6 = .ok (.iload_n 1, 1) := dk_27 (dk_at dksX3_path_0 6 rfl rfl)
theorem dX3_path_7 : decode cX3_path 7 = .ok (.ifCond .lt 15, 3) := dk_155 0 15 (dk_at dksX3_path_0 7 rfl rfl)
theorem dX3_path_10 : decode cX3_path 10 = .ok (.iload_n 1, 1) := dk_27 (dk_at dksX3_path_0 10 rfl rfl)
theorem dX3_path_11 : decode cX3_path 11 = .ok (.aload_n 0, 1) := dk_42 (dk_at dksX3_path_0 11 rfl rfl)
theorem dX3_path_12 : decode cX3_path 12 = .ok (.getfield 270, 3) := dk_180 1 14 (dk_at dksX3_path_0 12 rfl rfl)
theorem dX3_path_15 : decode cX3_path 15 = .ok (.if_icmp .ge 7, 3) := dk_162 0 7 (dk_at dksX3_path_0 15 rfl rfl)
theorem dX3_path_18 : decode cX3_path 18 = .ok (.iconst 1, 1) := dk_4 (dk_at dksX3_path_0 18 rfl rfl)
theorem dX3_path_19 : decode cX3_path 19 = .ok (.goto 4, 3) := dk_167 0 4 (dk_at dksX3_path_0 19 rfl rfl)
theorem dX3_path_22 : decode cX3_path 22 = .ok (.iconst 0, 1) := dk_3 (dk_at dksX3_path_0 22 rfl rfl)
theorem dX3_path_23 : decode cX3_path 23 = .ok (.iconst 1, 1) := dk_4 (dk_at dksX3_path_0 23 rfl rfl)
theorem dX3_path_24 : decode cX3_path 24 = .ok (.invokevirtual 241, 3) := dk_182 0 241 (dk_at dksX3_path_1 0 rfl rfl)
theorem dX3_path_27 : decode cX3_path 27 = .ok (.ifCond .eq 11, 3) := dk_153 0 11 (dk_at dksX3_path_1 3 rfl rfl)
theorem dX3_path_30 : decode cX3_path 30 = .ok (.aload_n 0, 1) := dk_42 (dk_at dksX3_path_1 6 rfl rfl)
theorem dX3_path_31 : decode cX3_path 31 = .ok (.iload_n 2, 1) := dk_28 (dk_at dksX3_path_1 7 rfl rfl)
theorem dX3_path_32 : decode cX3_path 32 = .ok (.invokevirtual 290, 3) := dk_182 1 34 (dk_at dksX3_path_1 8 rfl rfl)
theorem dX3_path_35 : decode cX3_path 35 = .ok (.ifCond .ne 5, 3) := dk_154 0 5 (dk_at dksX3_path_1 11 rfl rfl)
theorem dX3_path_38 : decode cX3_path 38 = .ok (.iconst 0, 1) := dk_3 (dk_at dksX3_path_1 14 rfl rfl)
theorem dX3_path_39 : decode cX3_path 39 = .ok (.ireturn, 1) := dk_172 (dk_at dksX3_path_1 15 rfl rfl)
theorem dX3_path_40 : decode cX3_path 40 = .ok (.iload_n 2, 1) := dk_28 (dk_at dksX3_path_1 16 rfl rfl)
theorem dX3_path_41 : decode cX3_path 41 = .ok (.ifCond .ne 12, 3) := dk_154 0 12 (dk_at dksX3_path_1 17 rfl rfl)
theorem dX3_path_44 : decode cX3_path 44 = .ok (.aload_n 0, 1) := dk_42 (dk_at dksX3_path_1 20 rfl rfl)
theorem dX3_path_45 : decode cX3_path 45 = .ok (.getfield 95, 3) := dk_180 0 95 (dk_at dksX3_path_1 21 rfl rfl)
theorem dX3_path_48 : decode cX3_path 48 = .ok (.iload_n 1, 1) := dk_27 (dk_at dksX3_path_2 0 rfl rfl)
theorem dX3_path_49 : decode cX3_path 49 = .ok (.iaload, 1) := dk_46 (dk_at dksX3_path_2 1 rfl rfl)
theorem dX3_path_50 : decode cX3_path 50 = .ok (.goto 9, 3) := dk_167 0 9 (dk_at dksX3_path_2 2 rfl rfl)
theorem dX3_path_53 : decode cX3_path 53 = .ok (.aload_n 0, 1) := dk_42 (dk_at dksX3_path_2 5 rfl rfl)
theorem dX3_path_54 : decode cX3_path 54 = .ok (.getfield 98, 3) := dk_180 0 98 (dk_at dksX3_path_2 6 rfl rfl)
theorem dX3_path_57 : decode cX3_path 57 = .ok (.iload_n 1, 1) := dk_27 (dk_at dksX3_path_2 9 rfl rfl)
theorem dX3_path_58 : decode cX3_path 58 = .ok (.iaload, 1) := dk_46 (dk_at dksX3_path_2 10 rfl rfl)
theorem dX3_path_59 : decode cX3_path 59 = .ok (.ireturn, 1) := dk_172 (dk_at dksX3_path_2 11 rfl rfl)
def dkwX3_rests_10 : List UInt8 := [42, 180, 0, 104, 29, 46, 167, 0, 4, 3, 172]
abbrev dktX3_rests_10 : List UInt8 := dkwX3_rests_10 ++ []
def dkwX3_rests_9 : List UInt8 := [160, 0, 6, 21, 5, 172, 42, 21, 5, 158, 0, 7, 4, 167, 0, 4, 3, 4, 182, 0, 241, 153, 0, 12]
abbrev dktX3_rests_9 : List UInt8 := dkwX3_rests_9 ++ dktX3_rests_10
def dkwX3_rests_8 : List UInt8 := [42, 42, 180, 0, 101, 42, 180, 0, 104, 182, 1, 4, 132, 5, 1, 132, 6, 1, 167, 255, 172, 29, 2]
abbrev dktX3_rests_8 : List UInt8 := dkwX3_rests_8 ++ dktX3_rests_9
def dkwX3_rests_7 : List UInt8 := [54, 7, 132, 8, 255, 167, 255, 225, 42, 28, 182, 1, 130, 154, 0, 6, 167, 0, 23, 21, 5, 154, 0, 15]
abbrev dktX3_rests_7 : List UInt8 := dkwX3_rests_7 ++ dktX3_rests_8
def dkwX3_rests_6 : List UInt8 := [155, 0, 32, 42, 180, 0, 101, 21, 8, 21, 7, 42, 180, 0, 248, 112, 79, 21, 7, 42, 180, 0, 248, 108]
abbrev dktX3_rests_6 : List UInt8 := dkwX3_rests_6 ++ dktX3_rests_7
def dkwX3_rests_5 : List UInt8 := [3, 54, 5, 3, 54, 6, 21, 6, 21, 4, 162, 0, 83, 21, 6, 54, 7, 28, 4, 100, 54, 8, 21, 8]
abbrev dktX3_rests_5 : List UInt8 := dkwX3_rests_5 ++ dktX3_rests_6
def dkwX3_rests_4 : List UInt8 := [3, 54, 5, 21, 5, 28, 162, 0, 18, 21, 4, 42, 180, 0, 248, 104, 54, 4, 132, 5, 1, 167, 255, 238]
abbrev dktX3_rests_4 : List UInt8 := dkwX3_rests_4 ++ dktX3_rests_5
def dkwX3_rests_3 : List UInt8 := [180, 0, 7, 21, 4, 46, 42, 21, 4, 27, 182, 1, 115, 104, 79, 132, 4, 1, 167, 255, 222, 4, 54, 4]
abbrev dktX3_rests_3 : List UInt8 := dkwX3_rests_3 ++ dktX3_rests_4
def dkwX3_rests_2 : List UInt8 := [154, 0, 5, 3, 172, 3, 54, 4, 21, 4, 42, 180, 0, 248, 162, 0, 31, 42, 180, 0, 107, 21, 4, 42]
abbrev dktX3_rests_2 : List UInt8 := dkwX3_rests_2 ++ dktX3_rests_3
def dkwX3_rests_1 : List UInt8 := [153, 0, 26, 42, 29, 2, 161, 0, 12, 29, 28, 162, 0, 7, 4, 167, 0, 4, 3, 4, 182, 0, 241]
abbrev dktX3_rests_1 : List UInt8 := dkwX3_rests_1 ++ dktX3_rests_2
def dkwX3_rests_0 : List UInt8 := [42, 3, 181, 0, 134, 42, 27, 182, 1, 49, 153, 0, 40, 42, 28, 4, 6, 184, 1, 27, 5, 182, 0, 241]
abbrev dktX3_rests_0 : List UInt8 := dkwX3_rests_0 ++ dktX3_rests_1
theorem dksX3_rests_0 : cX3_rests.data.toList.drop 0 = dktX3_rests_0 := by decide +kernel
theorem dksX3_rests_1 : cX3_rests.data.toList.drop 24 = dktX3_rests_1 := dk_seg dksX3_rests_0 24 rfl rfl
theorem dksX3_rests_2 : cX3_rests.data.toList.drop 47 = dktX3_rests_2 := dk_seg dksX3_rests_1 23 rfl rfl
theorem dksX3_rests_3 : cX3_rests.data.toList.drop 71 = dktX3_rests_3 := dk_seg dksX3_rests_2 24 rfl rfl
theorem dksX3_rests_4 : cX3_rests.data.toList.drop 95 = dktX3_rests_4 := dk_seg dksX3_rests_3 24 rfl rfl
theorem dksX3_rests_5 : cX3_rests.data.toList.drop 119 = dktX3_rests_5 := dk_seg dksX3_rests_4 24 rfl rfl
theorem dksX3_rests_6 : cX3_rests.data.toList.drop 143 = dktX3_rests_6 := dk_seg dksX3_rests_5 24 rfl rfl
theorem dksX3_rests_7 : cX3_rests.data.toList.drop 167 = dktX3_rests_7 := dk_seg dksX3_rests_6 24 rfl rfl
theorem dksX3_rests_8 : cX3_rests.data.toList.drop 191 = dktX3_rests_8 := dk_seg dksX3_rests_7 24 rfl rfl
theorem dksX3_rests_9 : cX3_rests.data.toList.drop 214 = dktX3_rests_9 := dk_seg dksX3_rests_8 23 rfl rfl
theorem dksX3_rests_10 : cX3_rests.data.toList.drop 238 = dktX3_rests_10 := dk_seg dksX3_rests_9 24 rfl rfl
theorem dX3_rests_0 : decode cX3_rests 0 = .ok (.aload_n 0, 1) := dk_42 (dk_at dksX3_rests_0 0 rfl rfl)
theorem dX3_rests_1 : decode cX3_rests 1 = .ok (.iconst 0, 1) := dk_3 (dk_at dksX3_rests_0 1 rfl rfl)
theorem dX3_rests_2 : decode cX3_rests 2 = .ok (.putfield 134, 3) := dk_181 0 134 (dk_at dksX3_rests_0 2 rfl rfl)
theorem dX3_rests_5 : decode cX3_rests 5 = .ok (.aload_n 0, 1) := dk_42 (dk_at dksX3_rests_0 5 rfl rfl)
theorem dX3_rests_6 : decode cX3_rests 6 = .ok (.iload_n 1, 1) := dk_27 (dk_at dksX3_rests_0 6 rfl rfl)
theorem dX3_rests_7 : decode cX3_rests 7 = .ok (.invokevirtual 305, 3) := dk_182 1 49 (dk_at dksX3_rests_0 7 rfl rfl)
theorem dX3_rests_10 : decode cX3_rests 10 = .ok (.ifCond .eq 40, 3) := dk_153 0 40 (dk_at dksX3_rests_0 10 rfl rfl)
theorem dX3_rests_13 : decode cX3_rests 13 = .ok (.aload_n 0, 1) := dk_42 (dk_at dksX3_rests_0 13 rfl rfl)
theorem dX3_rests_14 : decode cX3_rests 14 = .ok (.iload_n 2, 1) := dk_28 (dk_at dksX3_rests_0 14 rfl rfl)
theorem dX3_rests_15 : decode cX3_rests 15 = .ok (.iconst 1, 1) := dk_4 (dk_at dksX3_rests_0 15 rfl rfl)
theorem dX3_rests_16 : decode cX3_rests 16 = .ok (.iconst 3, 1) := dk_6 (dk_at dksX3_rests_0 16 rfl rfl)
theorem dX3_rests_17 : decode cX3_rests 17 = .ok (.invokestatic 283, 3) := dk_184 1 27 (dk_at dksX3_rests_0 17 rfl rfl)
theorem dX3_rests_20 : decode cX3_rests 20 = .ok (.iconst 2, 1) := dk_5 (dk_at dksX3_rests_0 20 rfl rfl)
theorem dX3_rests_21 : decode cX3_rests 21 = .ok (.invokevirtual 241, 3) := dk_182 0 241 (dk_at dksX3_rests_0 21 rfl rfl)
theorem dX3_rests_24 : decode cX3_rests 24 = .ok (.ifCond .eq 26, 3) := dk_153 0 26 (dk_at dksX3_rests_1 0 rfl rfl)
theorem dX3_rests_27 : decode cX3_rests 27 = .ok (.aload_n 0, 1) := dk_42 (dk_at dksX3_rests_1 3 rfl rfl)
theorem dX3_rests_28 : decode cX3_rests 28 = .ok (.iload_n 3, 1) := dk_29 (dk_at dksX3_rests_1 4 rfl rfl)
theorem dX3_rests_29 : decode cX3_rests 29 = .ok (.iconst (-1), 1) := dk_2 (dk_at dksX3_rests_1 5 rfl rfl)
theorem dX3_rests_30 : decode cX3_rests 30 = .ok (.if_icmp .lt 12, 3) := dk_161 0 12 (dk_at dksX3_rests_1 6 rfl rfl)
theorem dX3_rests_33 : decode cX3_rests 33 = .ok (.iload_n 3, 1) := dk_29 (dk_at dksX3_rests_1 9 rfl rfl)
theorem dX3_rests_34 : decode cX3_rests 34 = .ok (.iload_n 2, 1) := dk_28 (dk_at dksX3_rests_1 10 rfl rfl)
theorem dX3_rests_35 : decode cX3_rests 35 = .ok (.if_icmp .ge 7, 3) := dk_162 0 7 (dk_at dksX3_rests_1 11 rfl rfl)
theorem dX3_rests_38 : decode cX3_rests 38 = .ok (.iconst 1, 1) := dk_4 (dk_at dksX3_rests_1 14 rfl rfl)
theorem dX3_rests_39 : decode cX3_rests 39 = .ok (.goto 4, 3) := dk_167 0 4 (dk_at dksX3_rests_1 15 rfl rfl)
theorem dX3_rests_42 : decode cX3_rests 42 = .ok (.iconst 0, 1) := dk_3 (dk_at dksX3_rests_1 18 rfl rfl)
theorem dX3_rests_43 : decode cX3_rests 43 = .ok (.iconst 1, 1) := dk_4 (dk_at dksX3_rests_1 19 rfl rfl)
theorem dX3_rests_44 : decode cX3_rests 44 = .ok (.invokevirtual 241, 3) := dk_182 0 241 (dk_at dksX3_rests_1 20 rfl rfl)
theorem dX3_rests_47 : decode cX3_rests 47 = .ok (.ifCond .ne 5, 3) := dk_154 0 5 (dk_at dksX3_rests_2 0 rfl rfl)
theorem dX3_rests_50 : decode cX3_rests 50 = .ok (.iconst 0, 1) := dk_3 (dk_at dksX3_rests_2 3 rfl rfl)
theorem dX3_rests_51 : decode cX3_rests 51 = .ok (.ireturn, 1) := dk_172 (dk_at dksX3_rests_2 4 rfl rfl)
theorem dX3_rests_52 : decode cX3_rests 52 = .ok (.iconst 0, 1) := dk_3 (dk_at dksX3_rests_2 5 rfl rfl)
theorem dX3_rests_53 : decode cX3_rests 53 = .ok (.istore 4, 2) := dk_54 4 (dk_at dksX3_rests_2 6 rfl rfl)
theorem dX3_rests_55 : decode cX3_rests 55 = .ok (.iload 4, 2) := dk_21 4 (dk_at dksX3_rests_2 8 rfl rfl)
theorem dX3_rests_57 : decode cX3_rests 57 = .ok (.aload_n 0, 1) := dk_42 (dk_at dksX3_rests_2 10 rfl rfl)
theorem dX3_rests_58 : decode cX3_rests 58 = .ok (.getfield 248, 3) := dk_180 0 248 (dk_at dksX3_rests_2 11 rfl rfl)
theorem dX3_rests_61 : decode cX3_rests 61 = .ok (.if_icmp .ge 31, 3) := dk_162 0 31 (dk_at dksX3_rests_2 14 rfl rfl)
theorem dX3_rests_64 : decode cX3_rests 64 = .ok (.aload_n 0, 1) := dk_42 (dk_at dksX3_rests_2 17 rfl rfl)
theorem dX3_rests_65 : decode cX3_rests 65 = .ok (.getfield 107, 3) := dk_180 0 107 (dk_at dksX3_rests_2 18 rfl rfl)
theorem dX3_rests_68 : decode cX3_rests 68 = .ok (.iload 4, 2) := dk_21 4 (dk_at dksX3_rests_2 21 rfl rfl)
theorem dX3_rests_70 : decode cX3_rests 70 = .ok (.aload_n 0, 1) := dk_42 (dk_at dksX3_rests_2 23 rfl rfl)
theorem dX3_rests_71 : decode cX3_rests 71 = .ok (.getfield 7, 3) := dk_180 0 7 (dk_at dksX3_rests_3 0 rfl rfl)
theorem dX3_rests_74 : decode cX3_rests 74 = .ok (.iload 4, 2) := dk_21 4 (dk_at dksX3_rests_3 3 rfl rfl)
theorem dX3_rests_76 : decode cX3_rests 76 = .ok (.iaload, 1) := dk_46 (dk_at dksX3_rests_3 5 rfl rfl)
theorem dX3_rests_77 : decode cX3_rests 77 = .ok (.aload_n 0, 1) := dk_42 (dk_at dksX3_rests_3 6 rfl rfl)
theorem dX3_rests_78 : decode cX3_rests 78 = .ok (.iload 4, 2) := dk_21 4 (dk_at dksX3_rests_3 7 rfl rfl)
theorem dX3_rests_80 : decode cX3_rests 80 = .ok (.iload_n 1, 1) := dk_27 (dk_at dksX3_rests_3 9 rfl rfl)
theorem dX3_rests_81 : decode cX3_rests 81 = .ok (.invokevirtual 371, 3) := dk_182 1 115 (dk_at dksX3_rests_3 10 rfl rfl)
theorem dX3_rests_84 : decode cX3_rests 84 = .ok (.imul, 1) := dk_104 (dk_at dksX3_rests_3 13 rfl rfl)
theorem dX3_rests_85 : decode cX3_rests 85 = .ok (.iastore, 1) := dk_79 (dk_at dksX3_rests_3 14 rfl rfl)
theorem dX3_rests_86 : decode cX3_rests 86 = .ok (.iinc 4 1, 3) := dk_132 4 1 (dk_at dksX3_rests_3 15 rfl rfl)
theorem dX3_rests_89 : decode cX3_rests 89 = .ok (.goto (-34), 3) := dk_167 255 222 (dk_at dksX3_rests_3 18 rfl rfl)
theorem dX3_rests_92 : decode cX3_rests 92 = .ok (.iconst 1, 1) := dk_4 (dk_at dksX3_rests_3 21 rfl rfl)
theorem dX3_rests_93 : decode cX3_rests 93 = .ok (.istore 4, 2) := dk_54 4 (dk_at dksX3_rests_3 22 rfl rfl)
theorem dX3_rests_95 : decode cX3_rests 95 = .ok (.iconst 0, 1) := dk_3 (dk_at dksX3_rests_4 0 rfl rfl)
theorem dX3_rests_96 : decode cX3_rests 96 = .ok (.istore 5, 2) := dk_54 5 (dk_at dksX3_rests_4 1 rfl rfl)
theorem dX3_rests_98 : decode cX3_rests 98 = .ok (.iload 5, 2) := dk_21 5 (dk_at dksX3_rests_4 3 rfl rfl)
theorem dX3_rests_100 : decode cX3_rests 100 = .ok (.iload_n 2, 1) := dk_28 (dk_at dksX3_rests_4 5 rfl rfl)
theorem dX3_rests_101 : decode cX3_rests 101 = .ok (.if_icmp .ge 18, 3) := dk_162 0 18 (dk_at dksX3_rests_4 6 rfl rfl)
theorem dX3_rests_104 : decode cX3_rests 104 = .ok (.iload 4, 2) := dk_21 4 (dk_at dksX3_rests_4 9 rfl rfl)
theorem dX3_rests_106 : decode cX3_rests 106 = .ok (.aload_n 0, 1) := dk_42 (dk_at dksX3_rests_4 11 rfl rfl)
theorem dX3_rests_107 : decode cX3_rests 107 = .ok (.getfield 248, 3) := dk_180 0 248 (dk_at dksX3_rests_4 12 rfl rfl)
theorem dX3_rests_110 : decode cX3_rests 110 = .ok (.imul, 1) := dk_104 (dk_at dksX3_rests_4 15 rfl rfl)
theorem dX3_rests_111 : decode cX3_rests 111 = .ok (.istore 4, 2) := dk_54 4 (dk_at dksX3_rests_4 16 rfl rfl)
theorem dX3_rests_113 : decode cX3_rests 113 = .ok (.iinc 5 1, 3) := dk_132 5 1 (dk_at dksX3_rests_4 18 rfl rfl)
theorem dX3_rests_116 : decode cX3_rests 116 = .ok (.goto (-18), 3) := dk_167 255 238 (dk_at dksX3_rests_4 21 rfl rfl)
theorem dX3_rests_119 : decode cX3_rests 119 = .ok (.iconst 0, 1) := dk_3 (dk_at dksX3_rests_5 0 rfl rfl)
theorem dX3_rests_120 : decode cX3_rests 120 = .ok (.istore 5, 2) := dk_54 5 (dk_at dksX3_rests_5 1 rfl rfl)
theorem dX3_rests_122 : decode cX3_rests 122 = .ok (.iconst 0, 1) := dk_3 (dk_at dksX3_rests_5 3 rfl rfl)
theorem dX3_rests_123 : decode cX3_rests 123 = .ok (.istore 6, 2) := dk_54 6 (dk_at dksX3_rests_5 4 rfl rfl)
theorem dX3_rests_125 : decode cX3_rests 125 = .ok (.iload 6, 2) := dk_21 6 (dk_at dksX3_rests_5 6 rfl rfl)
theorem dX3_rests_127 : decode cX3_rests 127 = .ok (.iload 4, 2) := dk_21 4 (dk_at dksX3_rests_5 8 rfl rfl)
theorem dX3_rests_129 : decode cX3_rests 129 = .ok (.if_icmp .ge 83, 3) := dk_162 0 83 (dk_at dksX3_rests_5 10 rfl rfl)
theorem dX3_rests_132 : decode cX3_rests 132 = .ok (.iload 6, 2) := dk_21 6 (dk_at dksX3_rests_5 13 rfl rfl)
theorem dX3_rests_134 : decode cX3_rests 134 = .ok (.istore 7, 2) := dk_54 7 (dk_at dksX3_rests_5 15 rfl rfl)
theorem dX3_rests_136 : decode cX3_rests 136 = .ok (.iload_n 2, 1) := dk_28 (dk_at dksX3_rests_5 17 rfl rfl)
theorem dX3_rests_137 : decode cX3_rests 137 = .ok (.iconst 1, 1) := dk_4 (dk_at dksX3_rests_5 18 rfl rfl)
theorem dX3_rests_138 : decode cX3_rests 138 = .ok (.isub, 1) := dk_100 (dk_at dksX3_rests_5 19 rfl rfl)
theorem dX3_rests_139 : decode cX3_rests 139 = .ok (.istore 8, 2) := dk_54 8 (dk_at dksX3_rests_5 20 rfl rfl)
theorem dX3_rests_141 : decode cX3_rests 141 = .ok (.iload 8, 2) := dk_21 8 (dk_at dksX3_rests_5 22 rfl rfl)
theorem dX3_rests_143 : decode cX3_rests 143 = .ok (.ifCond .lt 32, 3) := dk_155 0 32 (dk_at dksX3_rests_6 0 rfl rfl)
theorem dX3_rests_146 : decode cX3_rests 146 = .ok (.aload_n 0, 1) := dk_42 (dk_at dksX3_rests_6 3 rfl rfl)
theorem dX3_rests_147 : decode cX3_rests 147 = .ok (.getfield 101, 3) := dk_180 0 101 (dk_at dksX3_rests_6 4 rfl rfl)
theorem dX3_rests_150 : decode cX3_rests 150 = .ok (.iload 8, 2) := dk_21 8 (dk_at dksX3_rests_6 7 rfl rfl)
theorem dX3_rests_152 : decode cX3_rests 152 = .ok (.iload 7, 2) := dk_21 7 (dk_at dksX3_rests_6 9 rfl rfl)
theorem dX3_rests_154 : decode cX3_rests 154 = .ok (.aload_n 0, 1) := dk_42 (dk_at dksX3_rests_6 11 rfl rfl)
theorem dX3_rests_155 : decode cX3_rests 155 = .ok (.getfield 248, 3) := dk_180 0 248 (dk_at dksX3_rests_6 12 rfl rfl)
theorem dX3_rests_158 : decode cX3_rests 158 = .ok (.irem, 1) := dk_112 (dk_at dksX3_rests_6 15 rfl rfl)
theorem dX3_rests_159 : decode cX3_rests 159 = .ok (.iastore, 1) := dk_79 (dk_at dksX3_rests_6 16 rfl rfl)
theorem dX3_rests_160 : decode cX3_rests 160 = .ok (.iload 7, 2) := dk_21 7 (dk_at dksX3_rests_6 17 rfl rfl)
theorem dX3_rests_162 : decode cX3_rests 162 = .ok (.aload_n 0, 1) := dk_42 (dk_at dksX3_rests_6 19 rfl rfl)
theorem dX3_rests_163 : decode cX3_rests 163 = .ok (.getfield 248, 3) := dk_180 0 248 (dk_at dksX3_rests_6 20 rfl rfl)
theorem dX3_rests_166 : decode cX3_rests 166 = .ok (.idiv, 1) := dk_108 (dk_at dksX3_rests_6 23 rfl rfl)
theorem dX3_rests_167 : decode cX3_rests 167 = .ok (.istore 7, 2) := dk_54 7 (dk_at dksX3_rests_7 0 rfl rfl)
theorem dX3_rests_169 : decode cX3_rests 169 = .ok (.iinc 8 (-1), 3) := dk_132 8 255 (dk_at dksX3_rests_7 2 rfl rfl)
theorem dX3_rests_172 : decode cX3_rests 172 = .ok (.goto (-31), 3) := dk_167 255 225 (dk_at dksX3_rests_7 5 rfl rfl)
theorem dX3_rests_175 : decode cX3_rests 175 = .ok (.aload_n 0, 1) := dk_42 (dk_at dksX3_rests_7 8 rfl rfl)
theorem dX3_rests_176 : decode cX3_rests 176 = .ok (.iload_n 2, 1) := dk_28 (dk_at dksX3_rests_7 9 rfl rfl)
theorem dX3_rests_177 : decode cX3_rests 177 = .ok (.invokevirtual 386, 3) := dk_182 1 130 (dk_at dksX3_rests_7 10 rfl rfl)
theorem dX3_rests_180 : decode cX3_rests 180 = .ok (.ifCond .ne 6, 3) := dk_154 0 6 (dk_at dksX3_rests_7 13 rfl rfl)
theorem dX3_rests_183 : decode cX3_rests 183 = .ok (.goto 23, 3) := dk_167 0 23 (dk_at dksX3_rests_7 16 rfl rfl)
theorem dX3_rests_186 : decode cX3_rests 186 = .ok (.iload 5, 2) := dk_21 5 (dk_at dksX3_rests_7 19 rfl rfl)
theorem dX3_rests_188 : decode cX3_rests 188 = .ok (.ifCond .ne 15, 3) := dk_154 0 15 (dk_at dksX3_rests_7 21 rfl rfl)
theorem dX3_rests_191 : decode cX3_rests 191 = .ok (.aload_n 0, 1) := dk_42 (dk_at dksX3_rests_8 0 rfl rfl)
theorem dX3_rests_192 : decode cX3_rests 192 = .ok (.aload_n 0, 1) := dk_42 (dk_at dksX3_rests_8 1 rfl rfl)
theorem dX3_rests_193 : decode cX3_rests 193 = .ok (.getfield 101, 3) := dk_180 0 101 (dk_at dksX3_rests_8 2 rfl rfl)
theorem dX3_rests_196 : decode cX3_rests 196 = .ok (.aload_n 0, 1) := dk_42 (dk_at dksX3_rests_8 5 rfl rfl)
theorem dX3_rests_197 : decode cX3_rests 197 = .ok (.getfield 104, 3) := dk_180 0 104 (dk_at dksX3_rests_8 6 rfl rfl)
theorem dX3_rests_200 : decode cX3_rests 200 = .ok (.invokevirtual 260, 3) := dk_182 1 4 (dk_at dksX3_rests_8 9 rfl rfl)
theorem dX3_rests_203 : decode cX3_rests 203 = .ok (.iinc 5 1, 3) := dk_132 5 1 (dk_at dksX3_rests_8 12 rfl rfl)
theorem dX3_rests_206 : decode cX3_rests 206 = .ok (.iinc 6 1, 3) := dk_132 6 1 (dk_at dksX3_rests_8 15 rfl rfl)
theorem dX3_rests_209 : decode cX3_rests 209 = .ok (.goto (-84), 3) := dk_167 255 172 (dk_at dksX3_rests_8 18 rfl rfl)
theorem dX3_rests_212 : decode cX3_rests 212 = .ok (.iload_n 3, 1) := dk_29 (dk_at dksX3_rests_8 21 rfl rfl)
theorem dX3_rests_213 : decode cX3_rests 213 = .ok (.iconst (-1), 1) := dk_2 (dk_at dksX3_rests_8 22 rfl rfl)
theorem dX3_rests_214 : decode cX3_rests 214 = .ok (.if_icmp .ne 6, 3) := dk_160 0 6 (dk_at dksX3_rests_9 0 rfl rfl)
theorem dX3_rests_217 : decode cX3_rests 217 = .ok (.iload 5, 2) := dk_21 5 (dk_at dksX3_rests_9 3 rfl rfl)
theorem dX3_rests_219 : decode cX3_rests 219 = .ok (.ireturn, 1) := dk_172 (dk_at dksX3_rests_9 5 rfl rfl)
theorem dX3_rests_220 : decode cX3_rests 220 = .ok (.aload_n 0, 1) := dk_42 (dk_at dksX3_rests_9 6 rfl rfl)
theorem dX3_rests_221 : decode cX3_rests 221 = .ok (.iload 5, 2) := dk_21 5 (dk_at dksX3_rests_9 7 rfl rfl)
theorem dX3_rests_223 : decode cX3_rests 223 = .ok (.ifCond .le 7, 3) := dk_158 0 7 (dk_at dksX3_rests_9 9 rfl rfl)
theorem dX3_rests_226 : decode cX3_rests 226 = .ok (.iconst 1, 1) := dk_4 (dk_at dksX3_rests_9 12 rfl rfl)
theorem dX3_rests_227 : decode cX3_rests 227 = .ok (.goto 4, 3) := dk_167 0 4 (dk_at dksX3_rests_9 13 rfl rfl)
theorem dX3_rests_230 : decode cX3_rests 230 = .ok (.iconst 0, 1) := dk_3 (dk_at dksX3_rests_9 16 rfl rfl)
theorem dX3_rests_231 : decode cX3_rests 231 = .ok (.iconst 1, 1) := dk_4 (dk_at dksX3_rests_9 17 rfl rfl)
theorem dX3_rests_232 : decode cX3_rests 232 = .ok (.invokevirtual 241, 3) := dk_182 0 241 (dk_at dksX3_rests_9 18 rfl rfl)
theorem dX3_rests_235 : decode cX3_rests 235 = .ok (.ifCond .eq 12, 3) := dk_153 0 12 (dk_at dksX3_rests_9 21 rfl rfl)
theorem dX3_rests_238 : decode cX3_rests 238 = .ok (.aload_n 0, 1) := dk_42 (dk_at dksX3_rests_10 0 rfl rfl)
theorem dX3_rests_239 : decode cX3_rests 239 = .ok (.getfield 104, 3) := dk_180 0 104 (dk_at dksX3_rests_10 1 rfl rfl)
theorem dX3_rests_242 : decode cX3_rests 242 = .ok (.iload_n 3, 1) := dk_29 (dk_at dksX3_rests_10 4 rfl rfl)
theorem dX3_rests_243 : decode cX3_rests 243 = .ok (.iaload, 1) := dk_46 (dk_at dksX3_rests_10 5 rfl rfl)
theorem dX3_rests_244 : decode cX3_rests 244 = .ok (.goto 4, 3) := dk_167 0 4 (dk_at dksX3_rests_10 6 rfl rfl)
theorem dX3_rests_247 : decode cX3_rests 247 = .ok (.iconst 0, 1) := dk_3 (dk_at dksX3_rests_10 9 rfl rfl)
theorem dX3_rests_248 : decode cX3_rests 248 = .ok (.ireturn, 1) := dk_172 (dk_at dksX3_rests_10 10 rfl rfl)
def dkwX3_isRest_3 : List UInt8 := [108, 29, 164, 0, 5, 3, 172, 132, 4, 1, 167, 255, 210, 132, 2, 1, 167, 255, 172, 4, 172]
abbrev dktX3_isRest_3 : List UInt8 := dkwX3_isRest_3 ++ []
def dkwX3_isRest_2 : List UInt8 := [180, 0, 101, 28, 46, 159, 0, 26, 42, 180, 0, 107, 21, 4, 46, 42, 21, 4, 27, 182, 1, 127, 4, 96]
abbrev dktX3_isRest_2 : List UInt8 := dkwX3_isRest_2 ++ dktX3_isRest_3
def dkwX3_isRest_1 : List UInt8 := [46, 27, 182, 1, 127, 108, 62, 3, 54, 4, 21, 4, 42, 180, 0, 248, 162, 0, 43, 21, 4, 42]
abbrev dktX3_isRest_1 : List UInt8 := dkwX3_isRest_1 ++ dktX3_isRest_2
def dkwX3_isRest_0 : List UInt8 := [3, 61, 28, 27, 162, 0, 85, 42, 180, 0, 107, 42, 180, 0, 101, 28, 46, 46, 42, 42, 180, 0, 101, 28]
abbrev dktX3_isRest_0 : List UInt8 := dkwX3_isRest_0 ++ dktX3_isRest_1
theorem dksX3_isRest_0 : cX3_isRest.data.toList.drop 0 = dktX3_isRest_0 := by decide +kernel
theorem dksX3_isRest_1 : cX3_isRest.data.toList.drop 24 = dktX3_isRest_1 := dk_seg dksX3_isRest_0 24 rfl rfl
theorem dksX3_isRest_2 : cX3_isRest.data.toList.drop 46 = dktX3_isRest_2 := dk_seg dksX3_isRest_1 22 rfl rfl
theorem dksX3_isRest_3 : cX3_isRest.data.toList.drop 70 = dktX3_isRest_3 := dk_seg dksX3_isRest_2 24 rfl rfl
theorem dX3_isRest_0 : decode cX3_isRest 0 = .ok (.iconst 0, 1) := dk_3 (dk_at dksX3_isRest_0 0 rfl rfl)
theorem dX3_isRest_1 : decode cX3_isRest 1 = .ok (.istore_n 2, 1) := dk_61 (dk_at dksX3_isRest_0 1 rfl rfl)
theorem dX3_isRest_2 : decode cX3_isRest 2 = .ok (.iload_n 2, 1) := dk_28 (dk_at dksX3_isRest_0 2 rfl rfl)
theorem dX3_isRest_3 : decode cX3_isRest 3 = .ok (.iload_n 1, 1) := dk_27 (dk_at dksX3_isRest_0 3 rfl rfl)
theorem dX3_isRest_4 : decode cX3_isRest 4 = .ok (.if_icmp .ge 85, 3) := dk_162 0 85 (dk_at dksX3_isRest_0 4 rfl rfl)
theorem dX3_isRest_7 : decode cX3_isRest 7 = .ok (.aload_n 0, 1) := dk_42 (dk_at dksX3_isRest_0 7 rfl rfl)
theorem dX3_isRest_8 : decode cX3_isRest 8 = .ok (.getfield 107, 3) := dk_180 0 107 (dk_at dksX3_isRest_0 8 rfl rfl)
theorem dX3_isRest_11 : decode cX3_isRest 11 = .ok (.aload_n 0, 1) := dk_42 (dk_at dksX3_isRest_0 11 rfl rfl)
theorem dX3_isRest_12 : decode cX3_isRest 12 = .ok (.getfield 101, 3) := dk_180 0 101 (dk_at dksX3_isRest_0 12 rfl rfl)
theorem dX3_isRest_15 : decode cX3_isRest 15 = .ok (.iload_n 2, 1) := dk_28 (dk_at dksX3_isRest_0 15 rfl rfl)
theorem dX3_isRest_16 : decode cX3_isRest 16 = .ok (.iaload, 1) := dk_46 (dk_at dksX3_isRest_0 16 rfl rfl)
theorem dX3_isRest_17 : decode cX3_isRest 17 = .ok (.iaload, 1) := dk_46 (dk_at dksX3_isRest_0 17 rfl rfl)
theorem dX3_isRest_18 : decode cX3_isRest 18 = .ok (.aload_n 0, 1) := dk_42 (dk_at dksX3_isRest_0 18 rfl rfl)
theorem dX3_isRest_19 : decode cX3_isRest 19 = .ok (.aload_n 0, 1) := dk_42 (dk_at dksX3_isRest_0 19 rfl rfl)
theorem dX3_isRest_20 : decode cX3_isRest 20 = .ok (.getfield 101, 3) := dk_180 0 101 (dk_at dksX3_isRest_0 20 rfl rfl)
theorem dX3_isRest_23 : decode cX3_isRest 23 = .ok (.iload_n 2, 1) := dk_28 (dk_at dksX3_isRest_0 23 rfl rfl)
theorem dX3_isRest_24 : decode cX3_isRest 24 = .ok (.iaload, 1) := dk_46 (dk_at dksX3_isRest_1 0 rfl rfl)
theorem dX3_isRest_25 : decode cX3_isRest 25 = .ok (.iload_n 1, 1) := dk_27 (dk_at dksX3_isRest_1 1 rfl rfl)
theorem dX3_isRest_26 : decode cX3_isRest 26 = .ok (.invokevirtual 383, 3) := dk_182 1 127 (dk_at dksX3_isRest_1 2 rfl rfl)
theorem dX3_isRest_29 : decode cX3_isRest 29 = .ok (.idiv, 1) := dk_108 (dk_at dksX3_isRest_1 5 rfl rfl)
theorem dX3_isRest_30 : decode cX3_isRest 30 = .ok (.istore_n 3, 1) := dk_62 (dk_at dksX3_isRest_1 6 rfl rfl)
theorem dX3_isRest_31 : decode cX3_isRest 31 = .ok (.iconst 0, 1) := dk_3 (dk_at dksX3_isRest_1 7 rfl rfl)
theorem dX3_isRest_32 : decode cX3_isRest 32 = .ok (.istore 4, 2) := dk_54 4 (dk_at dksX3_isRest_1 8 rfl rfl)
theorem dX3_isRest_34 : decode cX3_isRest 34 = .ok (.iload 4, 2) := dk_21 4 (dk_at dksX3_isRest_1 10 rfl rfl)
theorem dX3_isRest_36 : decode cX3_isRest 36 = .ok (.aload_n 0, 1) := dk_42 (dk_at dksX3_isRest_1 12 rfl rfl)
theorem dX3_isRest_37 : decode cX3_isRest 37 = .ok (.getfield 248, 3) := dk_180 0 248 (dk_at dksX3_isRest_1 13 rfl rfl)
theorem dX3_isRest_40 : decode cX3_isRest 40 = .ok (.if_icmp .ge 43, 3) := dk_162 0 43 (dk_at dksX3_isRest_1 16 rfl rfl)
theorem dX3_isRest_43 : decode cX3_isRest 43 = .ok (.iload 4, 2) := dk_21 4 (dk_at dksX3_isRest_1 19 rfl rfl)
theorem dX3_isRest_45 : decode cX3_isRest 45 = .ok (.aload_n 0, 1) := dk_42 (dk_at dksX3_isRest_1 21 rfl rfl)
theorem dX3_isRest_46 : decode cX3_isRest 46 = .ok (.getfield 101, 3) := dk_180 0 101 (dk_at dksX3_isRest_2 0 rfl rfl)
theorem dX3_isRest_49 : decode cX3_isRest 49 = .ok (.iload_n 2, 1) := dk_28 (dk_at dksX3_isRest_2 3 rfl rfl)
theorem dX3_isRest_50 : decode cX3_isRest 50 = .ok (.iaload, 1) := dk_46 (dk_at dksX3_isRest_2 4 rfl rfl)
theorem dX3_isRest_51 : decode cX3_isRest 51 = .ok (.if_icmp .eq 26, 3) := dk_159 0 26 (dk_at dksX3_isRest_2 5 rfl rfl)
theorem dX3_isRest_54 : decode cX3_isRest 54 = .ok (.aload_n 0, 1) := dk_42 (dk_at dksX3_isRest_2 8 rfl rfl)
theorem dX3_isRest_55 : decode cX3_isRest 55 = .ok (.getfield 107, 3) := dk_180 0 107 (dk_at dksX3_isRest_2 9 rfl rfl)
theorem dX3_isRest_58 : decode cX3_isRest 58 = .ok (.iload 4, 2) := dk_21 4 (dk_at dksX3_isRest_2 12 rfl rfl)
theorem dX3_isRest_60 : decode cX3_isRest 60 = .ok (.iaload, 1) := dk_46 (dk_at dksX3_isRest_2 14 rfl rfl)
theorem dX3_isRest_61 : decode cX3_isRest 61 = .ok (.aload_n 0, 1) := dk_42 (dk_at dksX3_isRest_2 15 rfl rfl)
theorem dX3_isRest_62 : decode cX3_isRest 62 = .ok (.iload 4, 2) := dk_21 4 (dk_at dksX3_isRest_2 16 rfl rfl)
theorem dX3_isRest_64 : decode cX3_isRest 64 = .ok (.iload_n 1, 1) := dk_27 (dk_at dksX3_isRest_2 18 rfl rfl)
theorem dX3_isRest_65 : decode cX3_isRest 65 = .ok (.invokevirtual 383, 3) := dk_182 1 127 (dk_at dksX3_isRest_2 19 rfl rfl)
theorem dX3_isRest_68 : decode cX3_isRest 68 = .ok (.iconst 1, 1) := dk_4 (dk_at dksX3_isRest_2 22 rfl rfl)
theorem dX3_isRest_69 : decode cX3_isRest 69 = .ok (.iadd, 1) := dk_96 (dk_at dksX3_isRest_2 23 rfl rfl)
theorem dX3_isRest_70 : decode cX3_isRest 70 = .ok (.idiv, 1) := dk_108 (dk_at dksX3_isRest_3 0 rfl rfl)
theorem dX3_isRest_71 : decode cX3_isRest 71 = .ok (.iload_n 3, 1) := dk_29 (dk_at dksX3_isRest_3 1 rfl rfl)
theorem dX3_isRest_72 : decode cX3_isRest 72 = .ok (.if_icmp .le 5, 3) := dk_164 0 5 (dk_at dksX3_isRest_3 2 rfl rfl)
theorem dX3_isRest_75 : decode cX3_isRest 75 = .ok (.iconst 0, 1) := dk_3 (dk_at dksX3_isRest_3 5 rfl rfl)
theorem dX3_isRest_76 : decode cX3_isRest 76 = .ok (.ireturn, 1) := dk_172 (dk_at dksX3_isRest_3 6 rfl rfl)
theorem dX3_isRest_77 : decode cX3_isRest 77 = .ok (.iinc 4 1, 3) := dk_132 4 1 (dk_at dksX3_isRest_3 7 rfl rfl)
theorem dX3_isRest_80 : decode cX3_isRest 80 = .ok (.goto (-46), 3) := dk_167 255 210 (dk_at dksX3_isRest_3 10 rfl rfl)
theorem dX3_isRest_83 : decode cX3_isRest 83 = .ok (.iinc 2 1, 3) := dk_132 2 1 (dk_at dksX3_isRest_3 13 rfl rfl)
theorem dX3_isRest_86 : decode cX3_isRest 86 = .ok (.goto (-84), 3) := dk_167 255 172 (dk_at dksX3_isRest_3 16 rfl rfl)
theorem dX3_isRest_89 : decode cX3_isRest 89 = .ok (.iconst 1, 1) := dk_4 (dk_at dksX3_isRest_3 19 rfl rfl)
theorem dX3_isRest_90 : decode cX3_isRest 90 = .ok (.ireturn, 1) := dk_172 (dk_at dksX3_isRest_3 20 rfl rfl)
def dkwX3_there_1 : List UInt8 := [167, 0, 4, 3, 96, 62, 132, 4, 1, 167, 255, 228, 29, 172]
abbrev dktX3_there_1 : List UInt8 := dkwX3_there_1 ++ []
def dkwX3_there_0 : List UInt8 := [3, 62, 3, 54, 4, 21, 4, 28, 162, 0, 28, 29, 42, 180, 0, 101, 21, 4, 46, 27, 160, 0, 7, 4]
abbrev dktX3_there_0 : List UInt8 := dkwX3_there_0 ++ dktX3_there_1
theorem dksX3_there_0 : cX3_there.data.toList.drop 0 = dktX3_there_0 := by decide +kernel
theorem dksX3_there_1 : cX3_there.data.toList.drop 24 = dktX3_there_1 := dk_seg dksX3_there_0 24 rfl rfl
theorem dX3_there_0 : decode cX3_there 0 = .ok (.iconst 0, 1) := dk_3 (dk_at dksX3_there_0 0 rfl rfl)
theorem dX3_there_1 : decode cX3_there 1 = .ok (.istore_n 3, 1) := dk_62 (dk_at dksX3_there_0 1 rfl rfl)
theorem dX3_there_2 : decode cX3_there 2 = .ok (.iconst 0, 1) := dk_3 (dk_at dksX3_there_0 2 rfl rfl)
theorem dX3_there_3 : decode cX3_there 3 = .ok (.istore 4, 2) := dk_54 4 (dk_at dksX3_there_0 3 rfl rfl)
theorem dX3_there_5 : decode cX3_there 5 = .ok (.iload 4, 2) := dk_21 4 (dk_at dksX3_there_0 5 rfl rfl)
theorem dX3_there_7 : decode cX3_there 7 = .ok (.iload_n 2, 1) := dk_28 (dk_at dksX3_there_0 7 rfl rfl)
theorem dX3_there_8 : decode cX3_there 8 = .ok (.if_icmp .ge 28, 3) := dk_162 0 28 (dk_at dksX3_there_0 8 rfl rfl)
theorem dX3_there_11 : decode cX3_there 11 = .ok (.iload_n 3, 1) := dk_29 (dk_at dksX3_there_0 11 rfl rfl)
theorem dX3_there_12 : decode cX3_there 12 = .ok (.aload_n 0, 1) := dk_42 (dk_at dksX3_there_0 12 rfl rfl)
theorem dX3_there_13 : decode cX3_there 13 = .ok (.getfield 101, 3) := dk_180 0 101 (dk_at dksX3_there_0 13 rfl rfl)
theorem dX3_there_16 : decode cX3_there 16 = .ok (.iload 4, 2) := dk_21 4 (dk_at dksX3_there_0 16 rfl rfl)
theorem dX3_there_18 : decode cX3_there 18 = .ok (.iaload, 1) := dk_46 (dk_at dksX3_there_0 18 rfl rfl)
theorem dX3_there_19 : decode cX3_there 19 = .ok (.iload_n 1, 1) := dk_27 (dk_at dksX3_there_0 19 rfl rfl)
theorem dX3_there_20 : decode cX3_there 20 = .ok (.if_icmp .ne 7, 3) := dk_160 0 7 (dk_at dksX3_there_0 20 rfl rfl)
theorem dX3_there_23 : decode cX3_there 23 = .ok (.iconst 1, 1) := dk_4 (dk_at dksX3_there_0 23 rfl rfl)
theorem dX3_there_24 : decode cX3_there 24 = .ok (.goto 4, 3) := dk_167 0 4 (dk_at dksX3_there_1 0 rfl rfl)
theorem dX3_there_27 : decode cX3_there 27 = .ok (.iconst 0, 1) := dk_3 (dk_at dksX3_there_1 3 rfl rfl)
theorem dX3_there_28 : decode cX3_there 28 = .ok (.iadd, 1) := dk_96 (dk_at dksX3_there_1 4 rfl rfl)
theorem dX3_there_29 : decode cX3_there 29 = .ok (.istore_n 3, 1) := dk_62 (dk_at dksX3_there_1 5 rfl rfl)
theorem dX3_there_30 : decode cX3_there 30 = .ok (.iinc 4 1, 3) := dk_132 4 1 (dk_at dksX3_there_1 6 rfl rfl)
theorem dX3_there_33 : decode cX3_there 33 = .ok (.goto (-28), 3) := dk_167 255 228 (dk_at dksX3_there_1 9 rfl rfl)
theorem dX3_there_36 : decode cX3_there 36 = .ok (.iload_n 3, 1) := dk_29 (dk_at dksX3_there_1 12 rfl rfl)
theorem dX3_there_37 : decode cX3_there 37 = .ok (.ireturn, 1) := dk_172 (dk_at dksX3_there_1 13 rfl rfl)
def dkwX3_fewest_10 : List UInt8 := [182, 1, 4, 29, 184, 1, 52, 172]
abbrev dktX3_fewest_10 : List UInt8 := dkwX3_fewest_10 ++ []
def dkwX3_fewest_9 : List UInt8 := [167, 255, 143, 21, 4, 156, 0, 5, 2, 172, 42, 4, 181, 1, 17, 42, 42, 180, 0, 110, 42, 180, 0, 113]
abbrev dktX3_fewest_9 : List UInt8 := dkwX3_fewest_9 ++ dktX3_fewest_10
def dkwX3_fewest_8 : List UInt8 := [132, 4, 255, 21, 4, 155, 0, 18, 29, 21, 4, 122, 4, 126, 154, 0, 9, 132, 4, 255, 167, 255, 239]
abbrev dktX3_fewest_8 : List UInt8 := dkwX3_fewest_8 ++ dktX3_fewest_9
def dkwX3_fewest_7 : List UInt8 := [21, 5, 153, 0, 14, 42, 180, 0, 110, 21, 4, 46, 2, 159, 0, 9, 132, 4, 1, 167, 255, 169]
abbrev dktX3_fewest_7 : List UInt8 := dkwX3_fewest_7 ++ dktX3_fewest_8
def dkwX3_fewest_6 : List UInt8 := [42, 180, 0, 110, 21, 4, 2, 79, 42, 180, 0, 110, 21, 4, 42, 21, 4, 21, 6, 182, 1, 148, 79]
abbrev dktX3_fewest_6 : List UInt8 := dkwX3_fewest_6 ++ dktX3_fewest_7
def dkwX3_fewest_5 : List UInt8 := [160, 0, 7, 4, 167, 0, 4, 3, 54, 5, 21, 5, 153, 0, 35, 42, 180, 0, 110, 21, 4, 46, 54, 6]
abbrev dktX3_fewest_5 : List UInt8 := dkwX3_fewest_5 ++ dktX3_fewest_6
def dkwX3_fewest_4 : List UInt8 := [3, 54, 4, 21, 4, 155, 0, 114, 21, 4, 42, 180, 0, 251, 162, 0, 105, 29, 21, 4, 122, 4, 126, 4]
abbrev dktX3_fewest_4 : List UInt8 := dkwX3_fewest_4 ++ dktX3_fewest_5
def dkwX3_fewest_3 : List UInt8 := [4, 21, 4, 120, 167, 0, 4, 3, 128, 62, 42, 180, 0, 110, 21, 4, 2, 79, 132, 4, 1, 167, 255, 215]
abbrev dktX3_fewest_3 : List UInt8 := dkwX3_fewest_3 ++ dktX3_fewest_4
def dkwX3_fewest_2 : List UInt8 := [62, 3, 54, 4, 21, 4, 42, 180, 0, 251, 162, 0, 38, 29, 42, 21, 4, 3, 182, 1, 145, 153, 0, 10]
abbrev dktX3_fewest_2 : List UInt8 := dkwX3_fewest_2 ++ dktX3_fewest_3
def dkwX3_fewest_1 : List UInt8 := [167, 0, 4, 3, 4, 182, 0, 241, 154, 0, 5, 3, 172, 42, 27, 181, 1, 133, 42, 28, 181, 1, 136, 3]
abbrev dktX3_fewest_1 : List UInt8 := dkwX3_fewest_1 ++ dktX3_fewest_2
def dkwX3_fewest_0 : List UInt8 := [42, 3, 181, 0, 134, 42, 27, 155, 0, 18, 28, 16, 23, 163, 0, 12, 27, 28, 163, 0, 7, 4]
abbrev dktX3_fewest_0 : List UInt8 := dkwX3_fewest_0 ++ dktX3_fewest_1
theorem dksX3_fewest_0 : cX3_fewest.data.toList.drop 0 = dktX3_fewest_0 := by decide +kernel
theorem dksX3_fewest_1 : cX3_fewest.data.toList.drop 22 = dktX3_fewest_1 := dk_seg dksX3_fewest_0 22 rfl rfl
theorem dksX3_fewest_2 : cX3_fewest.data.toList.drop 46 = dktX3_fewest_2 := dk_seg dksX3_fewest_1 24 rfl rfl
theorem dksX3_fewest_3 : cX3_fewest.data.toList.drop 70 = dktX3_fewest_3 := dk_seg dksX3_fewest_2 24 rfl rfl
theorem dksX3_fewest_4 : cX3_fewest.data.toList.drop 94 = dktX3_fewest_4 := dk_seg dksX3_fewest_3 24 rfl rfl
theorem dksX3_fewest_5 : cX3_fewest.data.toList.drop 118 = dktX3_fewest_5 := dk_seg dksX3_fewest_4 24 rfl rfl
theorem dksX3_fewest_6 : cX3_fewest.data.toList.drop 142 = dktX3_fewest_6 := dk_seg dksX3_fewest_5 24 rfl rfl
theorem dksX3_fewest_7 : cX3_fewest.data.toList.drop 165 = dktX3_fewest_7 := dk_seg dksX3_fewest_6 23 rfl rfl
theorem dksX3_fewest_8 : cX3_fewest.data.toList.drop 187 = dktX3_fewest_8 := dk_seg dksX3_fewest_7 22 rfl rfl
theorem dksX3_fewest_9 : cX3_fewest.data.toList.drop 210 = dktX3_fewest_9 := dk_seg dksX3_fewest_8 23 rfl rfl
theorem dksX3_fewest_10 : cX3_fewest.data.toList.drop 234 = dktX3_fewest_10 := dk_seg dksX3_fewest_9 24 rfl rfl
theorem dX3_fewest_0 : decode cX3_fewest 0 = .ok (.aload_n 0, 1) := dk_42 (dk_at dksX3_fewest_0 0 rfl rfl)
theorem dX3_fewest_1 : decode cX3_fewest 1 = .ok (.iconst 0, 1) := dk_3 (dk_at dksX3_fewest_0 1 rfl rfl)
theorem dX3_fewest_2 : decode cX3_fewest 2 = .ok (.putfield 134, 3) := dk_181 0 134 (dk_at dksX3_fewest_0 2 rfl rfl)
theorem dX3_fewest_5 : decode cX3_fewest 5 = .ok (.aload_n 0, 1) := dk_42 (dk_at dksX3_fewest_0 5 rfl rfl)
theorem dX3_fewest_6 : decode cX3_fewest 6 = .ok (.iload_n 1, 1) := dk_27 (dk_at dksX3_fewest_0 6 rfl rfl)
theorem dX3_fewest_7 : decode cX3_fewest 7 = .ok (.ifCond .lt 18, 3) := dk_155 0 18 (dk_at dksX3_fewest_0 7 rfl rfl)
theorem dX3_fewest_10 : decode cX3_fewest 10 = .ok (.iload_n 2, 1) := dk_28 (dk_at dksX3_fewest_0 10 rfl rfl)
theorem dX3_fewest_11 : decode cX3_fewest 11 = .ok (.bipush 23, 2) := dk_16 23 (dk_at dksX3_fewest_0 11 rfl rfl)
theorem dX3_fewest_13 : decode cX3_fewest 13 = .ok (.if_icmp .gt 12, 3) := dk_163 0 12 (dk_at dksX3_fewest_0 13 rfl rfl)
theorem dX3_fewest_16 : decode cX3_fewest 16 = .ok (.iload_n 1, 1) := dk_27 (dk_at dksX3_fewest_0 16 rfl rfl)
theorem dX3_fewest_17 : decode cX3_fewest 17 = .ok (.iload_n 2, 1) := dk_28 (dk_at dksX3_fewest_0 17 rfl rfl)
theorem dX3_fewest_18 : decode cX3_fewest 18 = .ok (.if_icmp .gt 7, 3) := dk_163 0 7 (dk_at dksX3_fewest_0 18 rfl rfl)
theorem dX3_fewest_21 : decode cX3_fewest 21 = .ok (.iconst 1, 1) := dk_4 (dk_at dksX3_fewest_0 21 rfl rfl)
theorem dX3_fewest_22 : decode cX3_fewest 22 = .ok (.goto 4, 3) := dk_167 0 4 (dk_at dksX3_fewest_1 0 rfl rfl)
theorem dX3_fewest_25 : decode cX3_fewest 25 = .ok (.iconst 0, 1) := dk_3 (dk_at dksX3_fewest_1 3 rfl rfl)
theorem dX3_fewest_26 : decode cX3_fewest 26 = .ok (.iconst 1, 1) := dk_4 (dk_at dksX3_fewest_1 4 rfl rfl)
theorem dX3_fewest_27 : decode cX3_fewest 27 = .ok (.invokevirtual 241, 3) := dk_182 0 241 (dk_at dksX3_fewest_1 5 rfl rfl)
theorem dX3_fewest_30 : decode cX3_fewest 30 = .ok (.ifCond .ne 5, 3) := dk_154 0 5 (dk_at dksX3_fewest_1 8 rfl rfl)
theorem dX3_fewest_33 : decode cX3_fewest 33 = .ok (.iconst 0, 1) := dk_3 (dk_at dksX3_fewest_1 11 rfl rfl)
theorem dX3_fewest_34 : decode cX3_fewest 34 = .ok (.ireturn, 1) := dk_172 (dk_at dksX3_fewest_1 12 rfl rfl)
theorem dX3_fewest_35 : decode cX3_fewest 35 = .ok (.aload_n 0, 1) := dk_42 (dk_at dksX3_fewest_1 13 rfl rfl)
theorem dX3_fewest_36 : decode cX3_fewest 36 = .ok (.iload_n 1, 1) := dk_27 (dk_at dksX3_fewest_1 14 rfl rfl)
theorem dX3_fewest_37 : decode cX3_fewest 37 = .ok (.putfield 389, 3) := dk_181 1 133 (dk_at dksX3_fewest_1 15 rfl rfl)
theorem dX3_fewest_40 : decode cX3_fewest 40 = .ok (.aload_n 0, 1) := dk_42 (dk_at dksX3_fewest_1 18 rfl rfl)
theorem dX3_fewest_41 : decode cX3_fewest 41 = .ok (.iload_n 2, 1) := dk_28 (dk_at dksX3_fewest_1 19 rfl rfl)
theorem dX3_fewest_42 : decode cX3_fewest 42 = .ok (.putfield 392, 3) := dk_181 1 136 (dk_at dksX3_fewest_1 20 rfl rfl)
theorem dX3_fewest_45 : decode cX3_fewest 45 = .ok (.iconst 0, 1) := dk_3 (dk_at dksX3_fewest_1 23 rfl rfl)
theorem dX3_fewest_46 : decode cX3_fewest 46 = .ok (.istore_n 3, 1) := dk_62 (dk_at dksX3_fewest_2 0 rfl rfl)
theorem dX3_fewest_47 : decode cX3_fewest 47 = .ok (.iconst 0, 1) := dk_3 (dk_at dksX3_fewest_2 1 rfl rfl)
theorem dX3_fewest_48 : decode cX3_fewest 48 = .ok (.istore 4, 2) := dk_54 4 (dk_at dksX3_fewest_2 2 rfl rfl)
theorem dX3_fewest_50 : decode cX3_fewest 50 = .ok (.iload 4, 2) := dk_21 4 (dk_at dksX3_fewest_2 4 rfl rfl)
theorem dX3_fewest_52 : decode cX3_fewest 52 = .ok (.aload_n 0, 1) := dk_42 (dk_at dksX3_fewest_2 6 rfl rfl)
theorem dX3_fewest_53 : decode cX3_fewest 53 = .ok (.getfield 251, 3) := dk_180 0 251 (dk_at dksX3_fewest_2 7 rfl rfl)
theorem dX3_fewest_56 : decode cX3_fewest 56 = .ok (.if_icmp .ge 38, 3) := dk_162 0 38 (dk_at dksX3_fewest_2 10 rfl rfl)
theorem dX3_fewest_59 : decode cX3_fewest 59 = .ok (.iload_n 3, 1) := dk_29 (dk_at dksX3_fewest_2 13 rfl rfl)
theorem dX3_fewest_60 : decode cX3_fewest 60 = .ok (.aload_n 0, 1) := dk_42 (dk_at dksX3_fewest_2 14 rfl rfl)
theorem dX3_fewest_61 : decode cX3_fewest 61 = .ok (.iload 4, 2) := dk_21 4 (dk_at dksX3_fewest_2 15 rfl rfl)
theorem dX3_fewest_63 : decode cX3_fewest 63 = .ok (.iconst 0, 1) := dk_3 (dk_at dksX3_fewest_2 17 rfl rfl)
theorem dX3_fewest_64 : decode cX3_fewest 64 = .ok (.invokevirtual 401, 3) := dk_182 1 145 (dk_at dksX3_fewest_2 18 rfl rfl)
theorem dX3_fewest_67 : decode cX3_fewest 67 = .ok (.ifCond .eq 10, 3) := dk_153 0 10 (dk_at dksX3_fewest_2 21 rfl rfl)
theorem dX3_fewest_70 : decode cX3_fewest 70 = .ok (.iconst 1, 1) := dk_4 (dk_at dksX3_fewest_3 0 rfl rfl)
theorem dX3_fewest_71 : decode cX3_fewest 71 = .ok (.iload 4, 2) := dk_21 4 (dk_at dksX3_fewest_3 1 rfl rfl)
theorem dX3_fewest_73 : decode cX3_fewest 73 = .ok (.ishl, 1) := dk_120 (dk_at dksX3_fewest_3 3 rfl rfl)
theorem dX3_fewest_74 : decode cX3_fewest 74 = .ok (.goto 4, 3) := dk_167 0 4 (dk_at dksX3_fewest_3 4 rfl rfl)
theorem dX3_fewest_77 : decode cX3_fewest 77 = .ok (.iconst 0, 1) := dk_3 (dk_at dksX3_fewest_3 7 rfl rfl)
theorem dX3_fewest_78 : decode cX3_fewest 78 = .ok (.ior, 1) := dk_128 (dk_at dksX3_fewest_3 8 rfl rfl)
theorem dX3_fewest_79 : decode cX3_fewest 79 = .ok (.istore_n 3, 1) := dk_62 (dk_at dksX3_fewest_3 9 rfl rfl)
theorem dX3_fewest_80 : decode cX3_fewest 80 = .ok (.aload_n 0, 1) := dk_42 (dk_at dksX3_fewest_3 10 rfl rfl)
theorem dX3_fewest_81 : decode cX3_fewest 81 = .ok (.getfield 110, 3) := dk_180 0 110 (dk_at dksX3_fewest_3 11 rfl rfl)
theorem dX3_fewest_84 : decode cX3_fewest 84 = .ok (.iload 4, 2) := dk_21 4 (dk_at dksX3_fewest_3 14 rfl rfl)
theorem dX3_fewest_86 : decode cX3_fewest 86 = .ok (.iconst (-1), 1) := dk_2 (dk_at dksX3_fewest_3 16 rfl rfl)
theorem dX3_fewest_87 : decode cX3_fewest 87 = .ok (.iastore, 1) := dk_79 (dk_at dksX3_fewest_3 17 rfl rfl)
theorem dX3_fewest_88 : decode cX3_fewest 88 = .ok (.iinc 4 1, 3) := dk_132 4 1 (dk_at dksX3_fewest_3 18 rfl rfl)
theorem dX3_fewest_91 : decode cX3_fewest 91 = .ok (.goto (-41), 3) := dk_167 255 215 (dk_at dksX3_fewest_3 21 rfl rfl)
theorem dX3_fewest_94 : decode cX3_fewest 94 = .ok (.iconst 0, 1) := dk_3 (dk_at dksX3_fewest_4 0 rfl rfl)
theorem dX3_fewest_95 : decode cX3_fewest 95 = .ok (.istore 4, 2) := dk_54 4 (dk_at dksX3_fewest_4 1 rfl rfl)
theorem dX3_fewest_97 : decode cX3_fewest 97 = .ok (.iload 4, 2) := dk_21 4 (dk_at dksX3_fewest_4 3 rfl rfl)
theorem dX3_fewest_99 : decode cX3_fewest 99 = .ok (.ifCond .lt 114, 3) := dk_155 0 114 (dk_at dksX3_fewest_4 5 rfl rfl)
theorem dX3_fewest_102 : decode cX3_fewest 102 = .ok (.iload 4, 2) := dk_21 4 (dk_at dksX3_fewest_4 8 rfl rfl)
theorem dX3_fewest_104 : decode cX3_fewest 104 = .ok (.aload_n 0, 1) := dk_42 (dk_at dksX3_fewest_4 10 rfl rfl)
theorem dX3_fewest_105 : decode cX3_fewest 105 = .ok (.getfield 251, 3) := dk_180 0 251 (dk_at dksX3_fewest_4 11 rfl rfl)
theorem dX3_fewest_108 : decode cX3_fewest 108 = .ok (.if_icmp .ge 105, 3) := dk_162 0 105 (dk_at dksX3_fewest_4 14 rfl rfl)
theorem dX3_fewest_111 : decode cX3_fewest 111 = .ok (.iload_n 3, 1) := dk_29 (dk_at dksX3_fewest_4 17 rfl rfl)
theorem dX3_fewest_112 : decode cX3_fewest 112 = .ok (.iload 4, 2) := dk_21 4 (dk_at dksX3_fewest_4 18 rfl rfl)
theorem dX3_fewest_114 : decode cX3_fewest 114 = .ok (.ishr, 1) := dk_122 (dk_at dksX3_fewest_4 20 rfl rfl)
theorem dX3_fewest_115 : decode cX3_fewest 115 = .ok (.iconst 1, 1) := dk_4 (dk_at dksX3_fewest_4 21 rfl rfl)
theorem dX3_fewest_116 : decode cX3_fewest 116 = .ok (.iand, 1) := dk_126 (dk_at dksX3_fewest_4 22 rfl rfl)
theorem dX3_fewest_117 : decode cX3_fewest 117 = .ok (.iconst 1, 1) := dk_4 (dk_at dksX3_fewest_4 23 rfl rfl)
theorem dX3_fewest_118 : decode cX3_fewest 118 = .ok (.if_icmp .ne 7, 3) := dk_160 0 7 (dk_at dksX3_fewest_5 0 rfl rfl)
theorem dX3_fewest_121 : decode cX3_fewest 121 = .ok (.iconst 1, 1) := dk_4 (dk_at dksX3_fewest_5 3 rfl rfl)
theorem dX3_fewest_122 : decode cX3_fewest 122 = .ok (.goto 4, 3) := dk_167 0 4 (dk_at dksX3_fewest_5 4 rfl rfl)
theorem dX3_fewest_125 : decode cX3_fewest 125 = .ok (.iconst 0, 1) := dk_3 (dk_at dksX3_fewest_5 7 rfl rfl)
theorem dX3_fewest_126 : decode cX3_fewest 126 = .ok (.istore 5, 2) := dk_54 5 (dk_at dksX3_fewest_5 8 rfl rfl)
theorem dX3_fewest_128 : decode cX3_fewest 128 = .ok (.iload 5, 2) := dk_21 5 (dk_at dksX3_fewest_5 10 rfl rfl)
theorem dX3_fewest_130 : decode cX3_fewest 130 = .ok (.ifCond .eq 35, 3) := dk_153 0 35 (dk_at dksX3_fewest_5 12 rfl rfl)
theorem dX3_fewest_133 : decode cX3_fewest 133 = .ok (.aload_n 0, 1) := dk_42 (dk_at dksX3_fewest_5 15 rfl rfl)
theorem dX3_fewest_134 : decode cX3_fewest 134 = .ok (.getfield 110, 3) := dk_180 0 110 (dk_at dksX3_fewest_5 16 rfl rfl)
theorem dX3_fewest_137 : decode cX3_fewest 137 = .ok (.iload 4, 2) := dk_21 4 (dk_at dksX3_fewest_5 19 rfl rfl)
theorem dX3_fewest_139 : decode cX3_fewest 139 = .ok (.iaload, 1) := dk_46 (dk_at dksX3_fewest_5 21 rfl rfl)
theorem dX3_fewest_140 : decode cX3_fewest 140 = .ok (.istore 6, 2) := dk_54 6 (dk_at dksX3_fewest_5 22 rfl rfl)
theorem dX3_fewest_142 : decode cX3_fewest 142 = .ok (.aload_n 0, 1) := dk_42 (dk_at dksX3_fewest_6 0 rfl rfl)
theorem dX3_fewest_143 : decode cX3_fewest 143 = .ok (.getfield 110, 3) := dk_180 0 110 (dk_at dksX3_fewest_6 1 rfl rfl)
theorem dX3_fewest_146 : decode cX3_fewest 146 = .ok (.iload 4, 2) := dk_21 4 (dk_at dksX3_fewest_6 4 rfl rfl)
theorem dX3_fewest_148 : decode cX3_fewest 148 = .ok (.iconst (-1), 1) := dk_2 (dk_at dksX3_fewest_6 6 rfl rfl)
theorem dX3_fewest_149 : decode cX3_fewest 149 = .ok (.iastore, 1) := dk_79 (dk_at dksX3_fewest_6 7 rfl rfl)
theorem dX3_fewest_150 : decode cX3_fewest 150 = .ok (.aload_n 0, 1) := dk_42 (dk_at dksX3_fewest_6 8 rfl rfl)
theorem dX3_fewest_151 : decode cX3_fewest 151 = .ok (.getfield 110, 3) := dk_180 0 110 (dk_at dksX3_fewest_6 9 rfl rfl)
theorem dX3_fewest_154 : decode cX3_fewest 154 = .ok (.iload 4, 2) := dk_21 4 (dk_at dksX3_fewest_6 12 rfl rfl)
theorem dX3_fewest_156 : decode cX3_fewest 156 = .ok (.aload_n 0, 1) := dk_42 (dk_at dksX3_fewest_6 14 rfl rfl)
theorem dX3_fewest_157 : decode cX3_fewest 157 = .ok (.iload 4, 2) := dk_21 4 (dk_at dksX3_fewest_6 15 rfl rfl)
theorem dX3_fewest_159 : decode cX3_fewest 159 = .ok (.iload 6, 2) := dk_21 6 (dk_at dksX3_fewest_6 17 rfl rfl)
theorem dX3_fewest_161 : decode cX3_fewest 161 = .ok (.invokevirtual 404, 3) := dk_182 1 148 (dk_at dksX3_fewest_6 19 rfl rfl)
theorem dX3_fewest_164 : decode cX3_fewest 164 = .ok (.iastore, 1) := dk_79 (dk_at dksX3_fewest_6 22 rfl rfl)
theorem dX3_fewest_165 : decode cX3_fewest 165 = .ok (.iload 5, 2) := dk_21 5 (dk_at dksX3_fewest_7 0 rfl rfl)
theorem dX3_fewest_167 : decode cX3_fewest 167 = .ok (.ifCond .eq 14, 3) := dk_153 0 14 (dk_at dksX3_fewest_7 2 rfl rfl)
theorem dX3_fewest_170 : decode cX3_fewest 170 = .ok (.aload_n 0, 1) := dk_42 (dk_at dksX3_fewest_7 5 rfl rfl)
theorem dX3_fewest_171 : decode cX3_fewest 171 = .ok (.getfield 110, 3) := dk_180 0 110 (dk_at dksX3_fewest_7 6 rfl rfl)
theorem dX3_fewest_174 : decode cX3_fewest 174 = .ok (.iload 4, 2) := dk_21 4 (dk_at dksX3_fewest_7 9 rfl rfl)
theorem dX3_fewest_176 : decode cX3_fewest 176 = .ok (.iaload, 1) := dk_46 (dk_at dksX3_fewest_7 11 rfl rfl)
theorem dX3_fewest_177 : decode cX3_fewest 177 = .ok (.iconst (-1), 1) := dk_2 (dk_at dksX3_fewest_7 12 rfl rfl)
theorem dX3_fewest_178 : decode cX3_fewest 178 = .ok (.if_icmp .eq 9, 3) := dk_159 0 9 (dk_at dksX3_fewest_7 13 rfl rfl)
theorem dX3_fewest_181 : decode cX3_fewest 181 = .ok (.iinc 4 1, 3) := dk_132 4 1 (dk_at dksX3_fewest_7 16 rfl rfl)
theorem dX3_fewest_184 : decode cX3_fewest 184 = .ok (.goto (-87), 3) := dk_167 255 169 (dk_at dksX3_fewest_7 19 rfl rfl)
theorem dX3_fewest_187 : decode cX3_fewest 187 = .ok (.iinc 4 (-1), 3) := dk_132 4 255 (dk_at dksX3_fewest_8 0 rfl rfl)
theorem dX3_fewest_190 : decode cX3_fewest 190 = .ok (.iload 4, 2) := dk_21 4 (dk_at dksX3_fewest_8 3 rfl rfl)
theorem dX3_fewest_192 : decode cX3_fewest 192 = .ok (.ifCond .lt 18, 3) := dk_155 0 18 (dk_at dksX3_fewest_8 5 rfl rfl)
theorem dX3_fewest_195 : decode cX3_fewest 195 = .ok (.iload_n 3, 1) := dk_29 (dk_at dksX3_fewest_8 8 rfl rfl)
theorem dX3_fewest_196 : decode cX3_fewest 196 = .ok (.iload 4, 2) := dk_21 4 (dk_at dksX3_fewest_8 9 rfl rfl)
theorem dX3_fewest_198 : decode cX3_fewest 198 = .ok (.ishr, 1) := dk_122 (dk_at dksX3_fewest_8 11 rfl rfl)
theorem dX3_fewest_199 : decode cX3_fewest 199 = .ok (.iconst 1, 1) := dk_4 (dk_at dksX3_fewest_8 12 rfl rfl)
theorem dX3_fewest_200 : decode cX3_fewest 200 = .ok (.iand, 1) := dk_126 (dk_at dksX3_fewest_8 13 rfl rfl)
theorem dX3_fewest_201 : decode cX3_fewest 201 = .ok (.ifCond .ne 9, 3) := dk_154 0 9 (dk_at dksX3_fewest_8 14 rfl rfl)
theorem dX3_fewest_204 : decode cX3_fewest 204 = .ok (.iinc 4 (-1), 3) := dk_132 4 255 (dk_at dksX3_fewest_8 17 rfl rfl)
theorem dX3_fewest_207 : decode cX3_fewest 207 = .ok (.goto (-17), 3) := dk_167 255 239 (dk_at dksX3_fewest_8 20 rfl rfl)
theorem dX3_fewest_210 : decode cX3_fewest 210 = .ok (.goto (-113), 3) := dk_167 255 143 (dk_at dksX3_fewest_9 0 rfl rfl)
theorem dX3_fewest_213 : decode cX3_fewest 213 = .ok (.iload 4, 2) := dk_21 4 (dk_at dksX3_fewest_9 3 rfl rfl)
theorem dX3_fewest_215 : decode cX3_fewest 215 = .ok (.ifCond .ge 5, 3) := dk_156 0 5 (dk_at dksX3_fewest_9 5 rfl rfl)
theorem dX3_fewest_218 : decode cX3_fewest 218 = .ok (.iconst (-1), 1) := dk_2 (dk_at dksX3_fewest_9 8 rfl rfl)
theorem dX3_fewest_219 : decode cX3_fewest 219 = .ok (.ireturn, 1) := dk_172 (dk_at dksX3_fewest_9 9 rfl rfl)
theorem dX3_fewest_220 : decode cX3_fewest 220 = .ok (.aload_n 0, 1) := dk_42 (dk_at dksX3_fewest_9 10 rfl rfl)
theorem dX3_fewest_221 : decode cX3_fewest 221 = .ok (.iconst 1, 1) := dk_4 (dk_at dksX3_fewest_9 11 rfl rfl)
theorem dX3_fewest_222 : decode cX3_fewest 222 = .ok (.putfield 273, 3) := dk_181 1 17 (dk_at dksX3_fewest_9 12 rfl rfl)
theorem dX3_fewest_225 : decode cX3_fewest 225 = .ok (.aload_n 0, 1) := dk_42 (dk_at dksX3_fewest_9 15 rfl rfl)
theorem dX3_fewest_226 : decode cX3_fewest 226 = .ok (.aload_n 0, 1) := dk_42 (dk_at dksX3_fewest_9 16 rfl rfl)
theorem dX3_fewest_227 : decode cX3_fewest 227 = .ok (.getfield 110, 3) := dk_180 0 110 (dk_at dksX3_fewest_9 17 rfl rfl)
theorem dX3_fewest_230 : decode cX3_fewest 230 = .ok (.aload_n 0, 1) := dk_42 (dk_at dksX3_fewest_9 20 rfl rfl)
theorem dX3_fewest_231 : decode cX3_fewest 231 = .ok (.getfield 113, 3) := dk_180 0 113 (dk_at dksX3_fewest_9 21 rfl rfl)
theorem dX3_fewest_234 : decode cX3_fewest 234 = .ok (.invokevirtual 260, 3) := dk_182 1 4 (dk_at dksX3_fewest_10 0 rfl rfl)
theorem dX3_fewest_237 : decode cX3_fewest 237 = .ok (.iload_n 3, 1) := dk_29 (dk_at dksX3_fewest_10 3 rfl rfl)
theorem dX3_fewest_238 : decode cX3_fewest 238 = .ok (.invokestatic 308, 3) := dk_184 1 52 (dk_at dksX3_fewest_10 4 rfl rfl)
theorem dX3_fewest_241 : decode cX3_fewest 241 = .ok (.ireturn, 1) := dk_172 (dk_at dksX3_fewest_10 7 rfl rfl)
def dkwX3_isNeedy_2 : List UInt8 := [4, 172, 132, 3, 1, 167, 255, 208, 3, 172]
abbrev dktX3_isNeedy_2 : List UInt8 := dkwX3_isNeedy_2 ++ []
def dkwX3_isNeedy_1 : List UInt8 := [46, 182, 1, 40, 54, 4, 21, 4, 153, 0, 18, 21, 4, 42, 27, 182, 1, 43, 28, 128, 126, 154, 0, 5]
abbrev dktX3_isNeedy_1 : List UInt8 := dkwX3_isNeedy_1 ++ dktX3_isNeedy_2
def dkwX3_isNeedy_0 : List UInt8 := [42, 180, 1, 133, 62, 29, 42, 180, 1, 136, 163, 0, 46, 42, 42, 180, 0, 65, 16, 24, 27, 104, 29, 96]
abbrev dktX3_isNeedy_0 : List UInt8 := dkwX3_isNeedy_0 ++ dktX3_isNeedy_1
theorem dksX3_isNeedy_0 : cX3_isNeedy.data.toList.drop 0 = dktX3_isNeedy_0 := by decide +kernel
theorem dksX3_isNeedy_1 : cX3_isNeedy.data.toList.drop 24 = dktX3_isNeedy_1 := dk_seg dksX3_isNeedy_0 24 rfl rfl
theorem dksX3_isNeedy_2 : cX3_isNeedy.data.toList.drop 48 = dktX3_isNeedy_2 := dk_seg dksX3_isNeedy_1 24 rfl rfl
theorem dX3_isNeedy_0 : decode cX3_isNeedy 0 = .ok (.aload_n 0, 1) := dk_42 (dk_at dksX3_isNeedy_0 0 rfl rfl)
theorem dX3_isNeedy_1 : decode cX3_isNeedy 1 = .ok (.getfield 389, 3) := dk_180 1 133 (dk_at dksX3_isNeedy_0 1 rfl rfl)
theorem dX3_isNeedy_4 : decode cX3_isNeedy 4 = .ok (.istore_n 3, 1) := dk_62 (dk_at dksX3_isNeedy_0 4 rfl rfl)
theorem dX3_isNeedy_5 : decode cX3_isNeedy 5 = .ok (.iload_n 3, 1) := dk_29 (dk_at dksX3_isNeedy_0 5 rfl rfl)
theorem dX3_isNeedy_6 : decode cX3_isNeedy 6 = .ok (.aload_n 0, 1) := dk_42 (dk_at dksX3_isNeedy_0 6 rfl rfl)
theorem dX3_isNeedy_7 : decode cX3_isNeedy 7 = .ok (.getfield 392, 3) := dk_180 1 136 (dk_at dksX3_isNeedy_0 7 rfl rfl)
theorem dX3_isNeedy_10 : decode cX3_isNeedy 10 = .ok (.if_icmp .gt 46, 3) := dk_163 0 46 (dk_at dksX3_isNeedy_0 10 rfl rfl)
theorem dX3_isNeedy_13 : decode cX3_isNeedy 13 = .ok (.aload_n 0, 1) := dk_42 (dk_at dksX3_isNeedy_0 13 rfl rfl)
theorem dX3_isNeedy_14 : decode cX3_isNeedy 14 = .ok (.aload_n 0, 1) := dk_42 (dk_at dksX3_isNeedy_0 14 rfl rfl)
theorem dX3_isNeedy_15 : decode cX3_isNeedy 15 = .ok (.getfield 65, 3) := dk_180 0 65 (dk_at dksX3_isNeedy_0 15 rfl rfl)
theorem dX3_isNeedy_18 : decode cX3_isNeedy 18 = .ok (.bipush 24, 2) := dk_16 24 (dk_at dksX3_isNeedy_0 18 rfl rfl)
theorem dX3_isNeedy_20 : decode cX3_isNeedy 20 = .ok (.iload_n 1, 1) := dk_27 (dk_at dksX3_isNeedy_0 20 rfl rfl)
theorem dX3_isNeedy_21 : decode cX3_isNeedy 21 = .ok (.imul, 1) := dk_104 (dk_at dksX3_isNeedy_0 21 rfl rfl)
theorem dX3_isNeedy_22 : decode cX3_isNeedy 22 = .ok (.iload_n 3, 1) := dk_29 (dk_at dksX3_isNeedy_0 22 rfl rfl)
theorem dX3_isNeedy_23 : decode cX3_isNeedy 23 = .ok (.iadd, 1) := dk_96 (dk_at dksX3_isNeedy_0 23 rfl rfl)
theorem dX3_isNeedy_24 : decode cX3_isNeedy 24 = .ok (.iaload, 1) := dk_46 (dk_at dksX3_isNeedy_1 0 rfl rfl)
theorem dX3_isNeedy_25 : decode cX3_isNeedy 25 = .ok (.invokevirtual 296, 3) := dk_182 1 40 (dk_at dksX3_isNeedy_1 1 rfl rfl)
theorem dX3_isNeedy_28 : decode cX3_isNeedy 28 = .ok (.istore 4, 2) := dk_54 4 (dk_at dksX3_isNeedy_1 4 rfl rfl)
theorem dX3_isNeedy_30 : decode cX3_isNeedy 30 = .ok (.iload 4, 2) := dk_21 4 (dk_at dksX3_isNeedy_1 6 rfl rfl)
theorem dX3_isNeedy_32 : decode cX3_isNeedy 32 = .ok (.ifCond .eq 18, 3) := dk_153 0 18 (dk_at dksX3_isNeedy_1 8 rfl rfl)
theorem dX3_isNeedy_35 : decode cX3_isNeedy 35 = .ok (.iload 4, 2) := dk_21 4 (dk_at dksX3_isNeedy_1 11 rfl rfl)
theorem dX3_isNeedy_37 : decode cX3_isNeedy 37 = .ok (.aload_n 0, 1) := dk_42 (dk_at dksX3_isNeedy_1 13 rfl rfl)
theorem dX3_isNeedy_38 : decode cX3_isNeedy 38 = .ok (.iload_n 1, 1) := dk_27 (dk_at dksX3_isNeedy_1 14 rfl rfl)
theorem dX3_isNeedy_39 : decode cX3_isNeedy 39 = .ok (.invokevirtual 299, 3) := dk_182 1 43 (dk_at dksX3_isNeedy_1 15 rfl rfl)
theorem dX3_isNeedy_42 : decode cX3_isNeedy 42 = .ok (.iload_n 2, 1) := dk_28 (dk_at dksX3_isNeedy_1 18 rfl rfl)
theorem dX3_isNeedy_43 : decode cX3_isNeedy 43 = .ok (.ior, 1) := dk_128 (dk_at dksX3_isNeedy_1 19 rfl rfl)
theorem dX3_isNeedy_44 : decode cX3_isNeedy 44 = .ok (.iand, 1) := dk_126 (dk_at dksX3_isNeedy_1 20 rfl rfl)
theorem dX3_isNeedy_45 : decode cX3_isNeedy 45 = .ok (.ifCond .ne 5, 3) := dk_154 0 5 (dk_at dksX3_isNeedy_1 21 rfl rfl)
theorem dX3_isNeedy_48 : decode cX3_isNeedy 48 = .ok (.iconst 1, 1) := dk_4 (dk_at dksX3_isNeedy_2 0 rfl rfl)
theorem dX3_isNeedy_49 : decode cX3_isNeedy 49 = .ok (.ireturn, 1) := dk_172 (dk_at dksX3_isNeedy_2 1 rfl rfl)
theorem dX3_isNeedy_50 : decode cX3_isNeedy 50 = .ok (.iinc 3 1, 3) := dk_132 3 1 (dk_at dksX3_isNeedy_2 2 rfl rfl)
theorem dX3_isNeedy_53 : decode cX3_isNeedy 53 = .ok (.goto (-48), 3) := dk_167 255 208 (dk_at dksX3_isNeedy_2 5 rfl rfl)
theorem dX3_isNeedy_56 : decode cX3_isNeedy 56 = .ok (.iconst 0, 1) := dk_3 (dk_at dksX3_isNeedy_2 8 rfl rfl)
theorem dX3_isNeedy_57 : decode cX3_isNeedy 57 = .ok (.ireturn, 1) := dk_172 (dk_at dksX3_isNeedy_2 9 rfl rfl)
def dkwX3_lendable_4 : List UInt8 := [154, 0, 5, 29, 172, 132, 3, 1, 167, 255, 157, 2, 172]
abbrev dktX3_lendable_4 : List UInt8 := dkwX3_lendable_4 ++ []
def dkwX3_lendable_3 : List UInt8 := [182, 1, 37, 42, 21, 4, 21, 5, 182, 1, 142, 163, 0, 6, 167, 0, 15, 42, 27, 21, 5, 182, 1, 145]
abbrev dktX3_lendable_3 : List UInt8 := dkwX3_lendable_3 ++ dktX3_lendable_4
def dkwX3_lendable_2 : List UInt8 := [21, 5, 182, 1, 37, 157, 0, 48, 42, 21, 4, 21, 5, 182, 1, 139, 153, 0, 37, 42, 21, 4, 21, 5]
abbrev dktX3_lendable_2 : List UInt8 := dkwX3_lendable_2 ++ dktX3_lendable_3
def dkwX3_lendable_1 : List UInt8 := [112, 54, 5, 21, 5, 4, 159, 0, 9, 21, 5, 5, 160, 0, 64, 21, 4, 27, 159, 0, 58, 42, 27]
abbrev dktX3_lendable_1 : List UInt8 := dkwX3_lendable_1 ++ dktX3_lendable_2
def dkwX3_lendable_0 : List UInt8 := [28, 4, 96, 62, 29, 16, 10, 42, 180, 0, 251, 104, 162, 0, 94, 29, 16, 10, 108, 54, 4, 29, 16, 10]
abbrev dktX3_lendable_0 : List UInt8 := dkwX3_lendable_0 ++ dktX3_lendable_1
theorem dksX3_lendable_0 : cX3_lendable.data.toList.drop 0 = dktX3_lendable_0 := by decide +kernel
theorem dksX3_lendable_1 : cX3_lendable.data.toList.drop 24 = dktX3_lendable_1 := dk_seg dksX3_lendable_0 24 rfl rfl
theorem dksX3_lendable_2 : cX3_lendable.data.toList.drop 47 = dktX3_lendable_2 := dk_seg dksX3_lendable_1 23 rfl rfl
theorem dksX3_lendable_3 : cX3_lendable.data.toList.drop 71 = dktX3_lendable_3 := dk_seg dksX3_lendable_2 24 rfl rfl
theorem dksX3_lendable_4 : cX3_lendable.data.toList.drop 95 = dktX3_lendable_4 := dk_seg dksX3_lendable_3 24 rfl rfl
theorem dX3_lendable_0 : decode cX3_lendable 0 = .ok (.iload_n 2, 1) := dk_28 (dk_at dksX3_lendable_0 0 rfl rfl)
theorem dX3_lendable_1 : decode cX3_lendable 1 = .ok (.iconst 1, 1) := dk_4 (dk_at dksX3_lendable_0 1 rfl rfl)
theorem dX3_lendable_2 : decode cX3_lendable 2 = .ok (.iadd, 1) := dk_96 (dk_at dksX3_lendable_0 2 rfl rfl)
theorem dX3_lendable_3 : decode cX3_lendable 3 = .ok (.istore_n 3, 1) := dk_62 (dk_at dksX3_lendable_0 3 rfl rfl)
theorem dX3_lendable_4 : decode cX3_lendable 4 = .ok (.iload_n 3, 1) := dk_29 (dk_at dksX3_lendable_0 4 rfl rfl)
theorem dX3_lendable_5 : decode cX3_lendable 5 = .ok (.bipush 10, 2) := dk_16 10 (dk_at dksX3_lendable_0 5 rfl rfl)
theorem dX3_lendable_7 : decode cX3_lendable 7 = .ok (.aload_n 0, 1) := dk_42 (dk_at dksX3_lendable_0 7 rfl rfl)
theorem dX3_lendable_8 : decode cX3_lendable 8 = .ok (.getfield 251, 3) := dk_180 0 251 (dk_at dksX3_lendable_0 8 rfl rfl)
theorem dX3_lendable_11 : decode cX3_lendable 11 = .ok (.imul, 1) := dk_104 (dk_at dksX3_lendable_0 11 rfl rfl)
theorem dX3_lendable_12 : decode cX3_lendable 12 = .ok (.if_icmp .ge 94, 3) := dk_162 0 94 (dk_at dksX3_lendable_0 12 rfl rfl)
theorem dX3_lendable_15 : decode cX3_lendable 15 = .ok (.iload_n 3, 1) := dk_29 (dk_at dksX3_lendable_0 15 rfl rfl)
theorem dX3_lendable_16 : decode cX3_lendable 16 = .ok (.bipush 10, 2) := dk_16 10 (dk_at dksX3_lendable_0 16 rfl rfl)
theorem dX3_lendable_18 : decode cX3_lendable 18 = .ok (.idiv, 1) := dk_108 (dk_at dksX3_lendable_0 18 rfl rfl)
theorem dX3_lendable_19 : decode cX3_lendable 19 = .ok (.istore 4, 2) := dk_54 4 (dk_at dksX3_lendable_0 19 rfl rfl)
theorem dX3_lendable_21 : decode cX3_lendable 21 = .ok (.iload_n 3, 1) := dk_29 (dk_at dksX3_lendable_0 21 rfl rfl)
theorem dX3_lendable_22 : decode cX3_lendable 22 = .ok (.bipush 10, 2) := dk_16 10 (dk_at dksX3_lendable_0 22 rfl rfl)
theorem dX3_lendable_24 : decode cX3_lendable 24 = .ok (.irem, 1) := dk_112 (dk_at dksX3_lendable_1 0 rfl rfl)
theorem dX3_lendable_25 : decode cX3_lendable 25 = .ok (.istore 5, 2) := dk_54 5 (dk_at dksX3_lendable_1 1 rfl rfl)
theorem dX3_lendable_27 : decode cX3_lendable 27 = .ok (.iload 5, 2) := dk_21 5 (dk_at dksX3_lendable_1 3 rfl rfl)
theorem dX3_lendable_29 : decode cX3_lendable 29 = .ok (.iconst 1, 1) := dk_4 (dk_at dksX3_lendable_1 5 rfl rfl)
theorem dX3_lendable_30 : decode cX3_lendable 30 = .ok (.if_icmp .eq 9, 3) := dk_159 0 9 (dk_at dksX3_lendable_1 6 rfl rfl)
theorem dX3_lendable_33 : decode cX3_lendable 33 = .ok (.iload 5, 2) := dk_21 5 (dk_at dksX3_lendable_1 9 rfl rfl)
theorem dX3_lendable_35 : decode cX3_lendable 35 = .ok (.iconst 2, 1) := dk_5 (dk_at dksX3_lendable_1 11 rfl rfl)
theorem dX3_lendable_36 : decode cX3_lendable 36 = .ok (.if_icmp .ne 64, 3) := dk_160 0 64 (dk_at dksX3_lendable_1 12 rfl rfl)
theorem dX3_lendable_39 : decode cX3_lendable 39 = .ok (.iload 4, 2) := dk_21 4 (dk_at dksX3_lendable_1 15 rfl rfl)
theorem dX3_lendable_41 : decode cX3_lendable 41 = .ok (.iload_n 1, 1) := dk_27 (dk_at dksX3_lendable_1 17 rfl rfl)
theorem dX3_lendable_42 : decode cX3_lendable 42 = .ok (.if_icmp .eq 58, 3) := dk_159 0 58 (dk_at dksX3_lendable_1 18 rfl rfl)
theorem dX3_lendable_45 : decode cX3_lendable 45 = .ok (.aload_n 0, 1) := dk_42 (dk_at dksX3_lendable_1 21 rfl rfl)
theorem dX3_lendable_46 : decode cX3_lendable 46 = .ok (.iload_n 1, 1) := dk_27 (dk_at dksX3_lendable_1 22 rfl rfl)
theorem dX3_lendable_47 : decode cX3_lendable 47 = .ok (.iload 5, 2) := dk_21 5 (dk_at dksX3_lendable_2 0 rfl rfl)
theorem dX3_lendable_49 : decode cX3_lendable 49 = .ok (.invokevirtual 293, 3) := dk_182 1 37 (dk_at dksX3_lendable_2 2 rfl rfl)
theorem dX3_lendable_52 : decode cX3_lendable 52 = .ok (.ifCond .gt 48, 3) := dk_157 0 48 (dk_at dksX3_lendable_2 5 rfl rfl)
theorem dX3_lendable_55 : decode cX3_lendable 55 = .ok (.aload_n 0, 1) := dk_42 (dk_at dksX3_lendable_2 8 rfl rfl)
theorem dX3_lendable_56 : decode cX3_lendable 56 = .ok (.iload 4, 2) := dk_21 4 (dk_at dksX3_lendable_2 9 rfl rfl)
theorem dX3_lendable_58 : decode cX3_lendable 58 = .ok (.iload 5, 2) := dk_21 5 (dk_at dksX3_lendable_2 11 rfl rfl)
theorem dX3_lendable_60 : decode cX3_lendable 60 = .ok (.invokevirtual 395, 3) := dk_182 1 139 (dk_at dksX3_lendable_2 13 rfl rfl)
theorem dX3_lendable_63 : decode cX3_lendable 63 = .ok (.ifCond .eq 37, 3) := dk_153 0 37 (dk_at dksX3_lendable_2 16 rfl rfl)
theorem dX3_lendable_66 : decode cX3_lendable 66 = .ok (.aload_n 0, 1) := dk_42 (dk_at dksX3_lendable_2 19 rfl rfl)
theorem dX3_lendable_67 : decode cX3_lendable 67 = .ok (.iload 4, 2) := dk_21 4 (dk_at dksX3_lendable_2 20 rfl rfl)
theorem dX3_lendable_69 : decode cX3_lendable 69 = .ok (.iload 5, 2) := dk_21 5 (dk_at dksX3_lendable_2 22 rfl rfl)
theorem dX3_lendable_71 : decode cX3_lendable 71 = .ok (.invokevirtual 293, 3) := dk_182 1 37 (dk_at dksX3_lendable_3 0 rfl rfl)
theorem dX3_lendable_74 : decode cX3_lendable 74 = .ok (.aload_n 0, 1) := dk_42 (dk_at dksX3_lendable_3 3 rfl rfl)
theorem dX3_lendable_75 : decode cX3_lendable 75 = .ok (.iload 4, 2) := dk_21 4 (dk_at dksX3_lendable_3 4 rfl rfl)
theorem dX3_lendable_77 : decode cX3_lendable 77 = .ok (.iload 5, 2) := dk_21 5 (dk_at dksX3_lendable_3 6 rfl rfl)
theorem dX3_lendable_79 : decode cX3_lendable 79 = .ok (.invokevirtual 398, 3) := dk_182 1 142 (dk_at dksX3_lendable_3 8 rfl rfl)
theorem dX3_lendable_82 : decode cX3_lendable 82 = .ok (.if_icmp .gt 6, 3) := dk_163 0 6 (dk_at dksX3_lendable_3 11 rfl rfl)
theorem dX3_lendable_85 : decode cX3_lendable 85 = .ok (.goto 15, 3) := dk_167 0 15 (dk_at dksX3_lendable_3 14 rfl rfl)
theorem dX3_lendable_88 : decode cX3_lendable 88 = .ok (.aload_n 0, 1) := dk_42 (dk_at dksX3_lendable_3 17 rfl rfl)
theorem dX3_lendable_89 : decode cX3_lendable 89 = .ok (.iload_n 1, 1) := dk_27 (dk_at dksX3_lendable_3 18 rfl rfl)
theorem dX3_lendable_90 : decode cX3_lendable 90 = .ok (.iload 5, 2) := dk_21 5 (dk_at dksX3_lendable_3 19 rfl rfl)
theorem dX3_lendable_92 : decode cX3_lendable 92 = .ok (.invokevirtual 401, 3) := dk_182 1 145 (dk_at dksX3_lendable_3 21 rfl rfl)
theorem dX3_lendable_95 : decode cX3_lendable 95 = .ok (.ifCond .ne 5, 3) := dk_154 0 5 (dk_at dksX3_lendable_4 0 rfl rfl)
theorem dX3_lendable_98 : decode cX3_lendable 98 = .ok (.iload_n 3, 1) := dk_29 (dk_at dksX3_lendable_4 3 rfl rfl)
theorem dX3_lendable_99 : decode cX3_lendable 99 = .ok (.ireturn, 1) := dk_172 (dk_at dksX3_lendable_4 4 rfl rfl)
theorem dX3_lendable_100 : decode cX3_lendable 100 = .ok (.iinc 3 1, 3) := dk_132 3 1 (dk_at dksX3_lendable_4 5 rfl rfl)
theorem dX3_lendable_103 : decode cX3_lendable 103 = .ok (.goto (-99), 3) := dk_167 255 157 (dk_at dksX3_lendable_4 8 rfl rfl)
theorem dX3_lendable_106 : decode cX3_lendable 106 = .ok (.iconst (-1), 1) := dk_2 (dk_at dksX3_lendable_4 11 rfl rfl)
theorem dX3_lendable_107 : decode cX3_lendable 107 = .ok (.ireturn, 1) := dk_172 (dk_at dksX3_lendable_4 12 rfl rfl)
def dkwX3_isFree_1 : List UInt8 := [46, 182, 1, 40, 28, 126, 153, 0, 5, 3, 172, 132, 3, 1, 167, 255, 223, 4, 172]
abbrev dktX3_isFree_1 : List UInt8 := dkwX3_isFree_1 ++ []
def dkwX3_isFree_0 : List UInt8 := [42, 180, 1, 133, 62, 29, 42, 180, 1, 136, 163, 0, 31, 42, 42, 180, 0, 65, 16, 24, 27, 104, 29, 96]
abbrev dktX3_isFree_0 : List UInt8 := dkwX3_isFree_0 ++ dktX3_isFree_1
theorem dksX3_isFree_0 : cX3_isFree.data.toList.drop 0 = dktX3_isFree_0 := by decide +kernel
theorem dksX3_isFree_1 : cX3_isFree.data.toList.drop 24 = dktX3_isFree_1 := dk_seg dksX3_isFree_0 24 rfl rfl
theorem dX3_isFree_0 : decode cX3_isFree 0 = .ok (.aload_n 0, 1) := dk_42 (dk_at dksX3_isFree_0 0 rfl rfl)
theorem dX3_isFree_1 : decode cX3_isFree 1 = .ok (.getfield 389, 3) := dk_180 1 133 (dk_at dksX3_isFree_0 1 rfl rfl)
theorem dX3_isFree_4 : decode cX3_isFree 4 = .ok (.istore_n 3, 1) := dk_62 (dk_at dksX3_isFree_0 4 rfl rfl)
theorem dX3_isFree_5 : decode cX3_isFree 5 = .ok (.iload_n 3, 1) := dk_29 (dk_at dksX3_isFree_0 5 rfl rfl)
theorem dX3_isFree_6 : decode cX3_isFree 6 = .ok (.aload_n 0, 1) := dk_42 (dk_at dksX3_isFree_0 6 rfl rfl)
theorem dX3_isFree_7 : decode cX3_isFree 7 = .ok (.getfield 392, 3) := dk_180 1 136 (dk_at dksX3_isFree_0 7 rfl rfl)
theorem dX3_isFree_10 : decode cX3_isFree 10 = .ok (.if_icmp .gt 31, 3) := dk_163 0 31 (dk_at dksX3_isFree_0 10 rfl rfl)
theorem dX3_isFree_13 : decode cX3_isFree 13 = .ok (.aload_n 0, 1) := dk_42 (dk_at dksX3_isFree_0 13 rfl rfl)
theorem dX3_isFree_14 : decode cX3_isFree 14 = .ok (.aload_n 0, 1) := dk_42 (dk_at dksX3_isFree_0 14 rfl rfl)
theorem dX3_isFree_15 : decode cX3_isFree 15 = .ok (.getfield 65, 3) := dk_180 0 65 (dk_at dksX3_isFree_0 15 rfl rfl)
theorem dX3_isFree_18 : decode cX3_isFree 18 = .ok (.bipush 24, 2) := dk_16 24 (dk_at dksX3_isFree_0 18 rfl rfl)
theorem dX3_isFree_20 : decode cX3_isFree 20 = .ok (.iload_n 1, 1) := dk_27 (dk_at dksX3_isFree_0 20 rfl rfl)
theorem dX3_isFree_21 : decode cX3_isFree 21 = .ok (.imul, 1) := dk_104 (dk_at dksX3_isFree_0 21 rfl rfl)
theorem dX3_isFree_22 : decode cX3_isFree 22 = .ok (.iload_n 3, 1) := dk_29 (dk_at dksX3_isFree_0 22 rfl rfl)
theorem dX3_isFree_23 : decode cX3_isFree 23 = .ok (.iadd, 1) := dk_96 (dk_at dksX3_isFree_0 23 rfl rfl)
theorem dX3_isFree_24 : decode cX3_isFree 24 = .ok (.iaload, 1) := dk_46 (dk_at dksX3_isFree_1 0 rfl rfl)
theorem dX3_isFree_25 : decode cX3_isFree 25 = .ok (.invokevirtual 296, 3) := dk_182 1 40 (dk_at dksX3_isFree_1 1 rfl rfl)
theorem dX3_isFree_28 : decode cX3_isFree 28 = .ok (.iload_n 2, 1) := dk_28 (dk_at dksX3_isFree_1 4 rfl rfl)
theorem dX3_isFree_29 : decode cX3_isFree 29 = .ok (.iand, 1) := dk_126 (dk_at dksX3_isFree_1 5 rfl rfl)
theorem dX3_isFree_30 : decode cX3_isFree 30 = .ok (.ifCond .eq 5, 3) := dk_153 0 5 (dk_at dksX3_isFree_1 6 rfl rfl)
theorem dX3_isFree_33 : decode cX3_isFree 33 = .ok (.iconst 0, 1) := dk_3 (dk_at dksX3_isFree_1 9 rfl rfl)
theorem dX3_isFree_34 : decode cX3_isFree 34 = .ok (.ireturn, 1) := dk_172 (dk_at dksX3_isFree_1 10 rfl rfl)
theorem dX3_isFree_35 : decode cX3_isFree 35 = .ok (.iinc 3 1, 3) := dk_132 3 1 (dk_at dksX3_isFree_1 11 rfl rfl)
theorem dX3_isFree_38 : decode cX3_isFree 38 = .ok (.goto (-33), 3) := dk_167 255 223 (dk_at dksX3_isFree_1 14 rfl rfl)
theorem dX3_isFree_41 : decode cX3_isFree 41 = .ok (.iconst 1, 1) := dk_4 (dk_at dksX3_isFree_1 17 rfl rfl)
theorem dX3_isFree_42 : decode cX3_isFree 42 = .ok (.ireturn, 1) := dk_172 (dk_at dksX3_isFree_1 18 rfl rfl)
def dkwX3_given_1 : List UInt8 := [27, 104, 28, 96, 160, 0, 7, 4, 167, 0, 4, 3, 96, 62, 132, 4, 1, 167, 255, 220, 29, 172]
abbrev dktX3_given_1 : List UInt8 := dkwX3_given_1 ++ []
def dkwX3_given_0 : List UInt8 := [3, 62, 3, 54, 4, 21, 4, 42, 180, 0, 251, 162, 0, 33, 29, 42, 180, 0, 110, 21, 4, 46, 16, 10]
abbrev dktX3_given_0 : List UInt8 := dkwX3_given_0 ++ dktX3_given_1
theorem dksX3_given_0 : cX3_given.data.toList.drop 0 = dktX3_given_0 := by decide +kernel
theorem dksX3_given_1 : cX3_given.data.toList.drop 24 = dktX3_given_1 := dk_seg dksX3_given_0 24 rfl rfl
theorem dX3_given_0 : decode cX3_given 0 = .ok (.iconst 0, 1) := dk_3 (dk_at dksX3_given_0 0 rfl rfl)
theorem dX3_given_1 : decode cX3_given 1 = .ok (.istore_n 3, 1) := dk_62 (dk_at dksX3_given_0 1 rfl rfl)
theorem dX3_given_2 : decode cX3_given 2 = .ok (.iconst 0, 1) := dk_3 (dk_at dksX3_given_0 2 rfl rfl)
theorem dX3_given_3 : decode cX3_given 3 = .ok (.istore 4, 2) := dk_54 4 (dk_at dksX3_given_0 3 rfl rfl)
theorem dX3_given_5 : decode cX3_given 5 = .ok (.iload 4, 2) := dk_21 4 (dk_at dksX3_given_0 5 rfl rfl)
theorem dX3_given_7 : decode cX3_given 7 = .ok (.aload_n 0, 1) := dk_42 (dk_at dksX3_given_0 7 rfl rfl)
theorem dX3_given_8 : decode cX3_given 8 = .ok (.getfield 251, 3) := dk_180 0 251 (dk_at dksX3_given_0 8 rfl rfl)
theorem dX3_given_11 : decode cX3_given 11 = .ok (.if_icmp .ge 33, 3) := dk_162 0 33 (dk_at dksX3_given_0 11 rfl rfl)
theorem dX3_given_14 : decode cX3_given 14 = .ok (.iload_n 3, 1) := dk_29 (dk_at dksX3_given_0 14 rfl rfl)
theorem dX3_given_15 : decode cX3_given 15 = .ok (.aload_n 0, 1) := dk_42 (dk_at dksX3_given_0 15 rfl rfl)
theorem dX3_given_16 : decode cX3_given 16 = .ok (.getfield 110, 3) := dk_180 0 110 (dk_at dksX3_given_0 16 rfl rfl)
theorem dX3_given_19 : decode cX3_given 19 = .ok (.iload 4, 2) := dk_21 4 (dk_at dksX3_given_0 19 rfl rfl)
theorem dX3_given_21 : decode cX3_given 21 = .ok (.iaload, 1) := dk_46 (dk_at dksX3_given_0 21 rfl rfl)
theorem dX3_given_22 : decode cX3_given 22 = .ok (.bipush 10, 2) := dk_16 10 (dk_at dksX3_given_0 22 rfl rfl)
theorem dX3_given_24 : decode cX3_given 24 = .ok (.iload_n 1, 1) := dk_27 (dk_at dksX3_given_1 0 rfl rfl)
theorem dX3_given_25 : decode cX3_given 25 = .ok (.imul, 1) := dk_104 (dk_at dksX3_given_1 1 rfl rfl)
theorem dX3_given_26 : decode cX3_given 26 = .ok (.iload_n 2, 1) := dk_28 (dk_at dksX3_given_1 2 rfl rfl)
theorem dX3_given_27 : decode cX3_given 27 = .ok (.iadd, 1) := dk_96 (dk_at dksX3_given_1 3 rfl rfl)
theorem dX3_given_28 : decode cX3_given 28 = .ok (.if_icmp .ne 7, 3) := dk_160 0 7 (dk_at dksX3_given_1 4 rfl rfl)
theorem dX3_given_31 : decode cX3_given 31 = .ok (.iconst 1, 1) := dk_4 (dk_at dksX3_given_1 7 rfl rfl)
theorem dX3_given_32 : decode cX3_given 32 = .ok (.goto 4, 3) := dk_167 0 4 (dk_at dksX3_given_1 8 rfl rfl)
theorem dX3_given_35 : decode cX3_given 35 = .ok (.iconst 0, 1) := dk_3 (dk_at dksX3_given_1 11 rfl rfl)
theorem dX3_given_36 : decode cX3_given 36 = .ok (.iadd, 1) := dk_96 (dk_at dksX3_given_1 12 rfl rfl)
theorem dX3_given_37 : decode cX3_given 37 = .ok (.istore_n 3, 1) := dk_62 (dk_at dksX3_given_1 13 rfl rfl)
theorem dX3_given_38 : decode cX3_given 38 = .ok (.iinc 4 1, 3) := dk_132 4 1 (dk_at dksX3_given_1 14 rfl rfl)
theorem dX3_given_41 : decode cX3_given 41 = .ok (.goto (-36), 3) := dk_167 255 220 (dk_at dksX3_given_1 17 rfl rfl)
theorem dX3_given_44 : decode cX3_given 44 = .ok (.iload_n 3, 1) := dk_29 (dk_at dksX3_given_1 20 rfl rfl)
theorem dX3_given_45 : decode cX3_given 45 = .ok (.ireturn, 1) := dk_172 (dk_at dksX3_given_1 21 rfl rfl)
def dkwX3_lender_1 : List UInt8 := [153, 0, 12, 42, 180, 0, 113, 27, 46, 167, 0, 4, 3, 172]
abbrev dktX3_lender_1 : List UInt8 := dkwX3_lender_1 ++ []
def dkwX3_lender_0 : List UInt8 := [42, 3, 181, 0, 134, 42, 27, 182, 1, 46, 153, 0, 24, 42, 42, 180, 1, 17, 4, 182, 0, 241]
abbrev dktX3_lender_0 : List UInt8 := dkwX3_lender_0 ++ dktX3_lender_1
theorem dksX3_lender_0 : cX3_lender.data.toList.drop 0 = dktX3_lender_0 := by decide +kernel
theorem dksX3_lender_1 : cX3_lender.data.toList.drop 22 = dktX3_lender_1 := dk_seg dksX3_lender_0 22 rfl rfl
theorem dX3_lender_0 : decode cX3_lender 0 = .ok (.aload_n 0, 1) := dk_42 (dk_at dksX3_lender_0 0 rfl rfl)
theorem dX3_lender_1 : decode cX3_lender 1 = .ok (.iconst 0, 1) := dk_3 (dk_at dksX3_lender_0 1 rfl rfl)
theorem dX3_lender_2 : decode cX3_lender 2 = .ok (.putfield 134, 3) := dk_181 0 134 (dk_at dksX3_lender_0 2 rfl rfl)
theorem dX3_lender_5 : decode cX3_lender 5 = .ok (.aload_n 0, 1) := dk_42 (dk_at dksX3_lender_0 5 rfl rfl)
theorem dX3_lender_6 : decode cX3_lender 6 = .ok (.iload_n 1, 1) := dk_27 (dk_at dksX3_lender_0 6 rfl rfl)
theorem dX3_lender_7 : decode cX3_lender 7 = .ok (.invokevirtual 302, 3) := dk_182 1 46 (dk_at dksX3_lender_0 7 rfl rfl)
theorem dX3_lender_10 : decode cX3_lender 10 = .ok (.ifCond .eq 24, 3) := dk_153 0 24 (dk_at dksX3_lender_0 10 rfl rfl)
theorem dX3_lender_13 : decode cX3_lender 13 = .ok (.aload_n 0, 1) := dk_42 (dk_at dksX3_lender_0 13 rfl rfl)
theorem dX3_lender_14 : decode cX3_lender 14 = .ok (.aload_n 0, 1) := dk_42 (dk_at dksX3_lender_0 14 rfl rfl)
theorem dX3_lender_15 : decode cX3_lender 15 = .ok (.getfield 273, 3) := dk_180 1 17 (dk_at dksX3_lender_0 15 rfl rfl)
theorem dX3_lender_18 : decode cX3_lender 18 = .ok (.iconst 1, 1) := dk_4 (dk_at dksX3_lender_0 18 rfl rfl)
theorem dX3_lender_19 : decode cX3_lender 19 = .ok (.invokevirtual 241, 3) := dk_182 0 241 (dk_at dksX3_lender_0 19 rfl rfl)
theorem dX3_lender_22 : decode cX3_lender 22 = .ok (.ifCond .eq 12, 3) := dk_153 0 12 (dk_at dksX3_lender_1 0 rfl rfl)
theorem dX3_lender_25 : decode cX3_lender 25 = .ok (.aload_n 0, 1) := dk_42 (dk_at dksX3_lender_1 3 rfl rfl)
theorem dX3_lender_26 : decode cX3_lender 26 = .ok (.getfield 113, 3) := dk_180 0 113 (dk_at dksX3_lender_1 4 rfl rfl)
theorem dX3_lender_29 : decode cX3_lender 29 = .ok (.iload_n 1, 1) := dk_27 (dk_at dksX3_lender_1 7 rfl rfl)
theorem dX3_lender_30 : decode cX3_lender 30 = .ok (.iaload, 1) := dk_46 (dk_at dksX3_lender_1 8 rfl rfl)
theorem dX3_lender_31 : decode cX3_lender 31 = .ok (.goto 4, 3) := dk_167 0 4 (dk_at dksX3_lender_1 9 rfl rfl)
theorem dX3_lender_34 : decode cX3_lender 34 = .ok (.iconst 0, 1) := dk_3 (dk_at dksX3_lender_1 12 rfl rfl)
theorem dX3_lender_35 : decode cX3_lender 35 = .ok (.ireturn, 1) := dk_172 (dk_at dksX3_lender_1 13 rfl rfl)
def dkwX3_kinds_2 : List UInt8 := [161, 0, 9, 132, 3, 1, 167, 255, 239, 29, 172]
abbrev dktX3_kinds_2 : List UInt8 := dkwX3_kinds_2 ++ []
def dkwX3_kinds_1 : List UInt8 := [180, 1, 151, 27, 162, 0, 5, 2, 172, 3, 62, 42, 180, 0, 116, 27, 4, 100, 46, 4, 29, 120]
abbrev dktX3_kinds_1 : List UInt8 := dkwX3_kinds_1 ++ dktX3_kinds_2
def dkwX3_kinds_0 : List UInt8 := [42, 3, 181, 0, 134, 42, 27, 28, 182, 1, 157, 154, 0, 5, 3, 172, 42, 28, 182, 1, 160, 42]
abbrev dktX3_kinds_0 : List UInt8 := dkwX3_kinds_0 ++ dktX3_kinds_1
theorem dksX3_kinds_0 : cX3_kinds.data.toList.drop 0 = dktX3_kinds_0 := by decide +kernel
theorem dksX3_kinds_1 : cX3_kinds.data.toList.drop 22 = dktX3_kinds_1 := dk_seg dksX3_kinds_0 22 rfl rfl
theorem dksX3_kinds_2 : cX3_kinds.data.toList.drop 44 = dktX3_kinds_2 := dk_seg dksX3_kinds_1 22 rfl rfl
theorem dX3_kinds_0 : decode cX3_kinds 0 = .ok (.aload_n 0, 1) := dk_42 (dk_at dksX3_kinds_0 0 rfl rfl)
theorem dX3_kinds_1 : decode cX3_kinds 1 = .ok (.iconst 0, 1) := dk_3 (dk_at dksX3_kinds_0 1 rfl rfl)
theorem dX3_kinds_2 : decode cX3_kinds 2 = .ok (.putfield 134, 3) := dk_181 0 134 (dk_at dksX3_kinds_0 2 rfl rfl)
theorem dX3_kinds_5 : decode cX3_kinds 5 = .ok (.aload_n 0, 1) := dk_42 (dk_at dksX3_kinds_0 5 rfl rfl)
theorem dX3_kinds_6 : decode cX3_kinds 6 = .ok (.iload_n 1, 1) := dk_27 (dk_at dksX3_kinds_0 6 rfl rfl)
theorem dX3_kinds_7 : decode cX3_kinds 7 = .ok (.iload_n 2, 1) := dk_28 (dk_at dksX3_kinds_0 7 rfl rfl)
theorem dX3_kinds_8 : decode cX3_kinds 8 = .ok (.invokevirtual 413, 3) := dk_182 1 157 (dk_at dksX3_kinds_0 8 rfl rfl)
theorem dX3_kinds_11 : decode cX3_kinds 11 = .ok (.ifCond .ne 5, 3) := dk_154 0 5 (dk_at dksX3_kinds_0 11 rfl rfl)
theorem dX3_kinds_14 : decode cX3_kinds 14 = .ok (.iconst 0, 1) := dk_3 (dk_at dksX3_kinds_0 14 rfl rfl)
theorem dX3_kinds_15 : decode cX3_kinds 15 = .ok (.ireturn, 1) := dk_172 (dk_at dksX3_kinds_0 15 rfl rfl)
theorem dX3_kinds_16 : decode cX3_kinds 16 = .ok (.aload_n 0, 1) := dk_42 (dk_at dksX3_kinds_0 16 rfl rfl)
theorem dX3_kinds_17 : decode cX3_kinds 17 = .ok (.iload_n 2, 1) := dk_28 (dk_at dksX3_kinds_0 17 rfl rfl)
theorem dX3_kinds_18 : decode cX3_kinds 18 = .ok (.invokevirtual 416, 3) := dk_182 1 160 (dk_at dksX3_kinds_0 18 rfl rfl)
theorem dX3_kinds_21 : decode cX3_kinds 21 = .ok (.aload_n 0, 1) := dk_42 (dk_at dksX3_kinds_0 21 rfl rfl)
theorem dX3_kinds_22 : decode cX3_kinds 22 = .ok (.getfield 407, 3) := dk_180 1 151 (dk_at dksX3_kinds_1 0 rfl rfl)
theorem dX3_kinds_25 : decode cX3_kinds 25 = .ok (.iload_n 1, 1) := dk_27 (dk_at dksX3_kinds_1 3 rfl rfl)
theorem dX3_kinds_26 : decode cX3_kinds 26 = .ok (.if_icmp .ge 5, 3) := dk_162 0 5 (dk_at dksX3_kinds_1 4 rfl rfl)
theorem dX3_kinds_29 : decode cX3_kinds 29 = .ok (.iconst (-1), 1) := dk_2 (dk_at dksX3_kinds_1 7 rfl rfl)
theorem dX3_kinds_30 : decode cX3_kinds 30 = .ok (.ireturn, 1) := dk_172 (dk_at dksX3_kinds_1 8 rfl rfl)
theorem dX3_kinds_31 : decode cX3_kinds 31 = .ok (.iconst 0, 1) := dk_3 (dk_at dksX3_kinds_1 9 rfl rfl)
theorem dX3_kinds_32 : decode cX3_kinds 32 = .ok (.istore_n 3, 1) := dk_62 (dk_at dksX3_kinds_1 10 rfl rfl)
theorem dX3_kinds_33 : decode cX3_kinds 33 = .ok (.aload_n 0, 1) := dk_42 (dk_at dksX3_kinds_1 11 rfl rfl)
theorem dX3_kinds_34 : decode cX3_kinds 34 = .ok (.getfield 116, 3) := dk_180 0 116 (dk_at dksX3_kinds_1 12 rfl rfl)
theorem dX3_kinds_37 : decode cX3_kinds 37 = .ok (.iload_n 1, 1) := dk_27 (dk_at dksX3_kinds_1 15 rfl rfl)
theorem dX3_kinds_38 : decode cX3_kinds 38 = .ok (.iconst 1, 1) := dk_4 (dk_at dksX3_kinds_1 16 rfl rfl)
theorem dX3_kinds_39 : decode cX3_kinds 39 = .ok (.isub, 1) := dk_100 (dk_at dksX3_kinds_1 17 rfl rfl)
theorem dX3_kinds_40 : decode cX3_kinds 40 = .ok (.iaload, 1) := dk_46 (dk_at dksX3_kinds_1 18 rfl rfl)
theorem dX3_kinds_41 : decode cX3_kinds 41 = .ok (.iconst 1, 1) := dk_4 (dk_at dksX3_kinds_1 19 rfl rfl)
theorem dX3_kinds_42 : decode cX3_kinds 42 = .ok (.iload_n 3, 1) := dk_29 (dk_at dksX3_kinds_1 20 rfl rfl)
theorem dX3_kinds_43 : decode cX3_kinds 43 = .ok (.ishl, 1) := dk_120 (dk_at dksX3_kinds_1 21 rfl rfl)
theorem dX3_kinds_44 : decode cX3_kinds 44 = .ok (.if_icmp .lt 9, 3) := dk_161 0 9 (dk_at dksX3_kinds_2 0 rfl rfl)
theorem dX3_kinds_47 : decode cX3_kinds 47 = .ok (.iinc 3 1, 3) := dk_132 3 1 (dk_at dksX3_kinds_2 3 rfl rfl)
theorem dX3_kinds_50 : decode cX3_kinds 50 = .ok (.goto (-17), 3) := dk_167 255 239 (dk_at dksX3_kinds_2 6 rfl rfl)
theorem dX3_kinds_53 : decode cX3_kinds 53 = .ok (.iload_n 3, 1) := dk_29 (dk_at dksX3_kinds_2 9 rfl rfl)
theorem dX3_kinds_54 : decode cX3_kinds 54 = .ok (.ireturn, 1) := dk_172 (dk_at dksX3_kinds_2 10 rfl rfl)
def dkwX3_isCode_1 : List UInt8 := [3, 4, 182, 0, 241, 172]
abbrev dktX3_isCode_1 : List UInt8 := dkwX3_isCode_1 ++ []
def dkwX3_isCode_0 : List UInt8 := [42, 27, 4, 16, 40, 184, 1, 27, 153, 0, 16, 28, 4, 6, 184, 1, 27, 153, 0, 7, 4, 167, 0, 4]
abbrev dktX3_isCode_0 : List UInt8 := dkwX3_isCode_0 ++ dktX3_isCode_1
theorem dksX3_isCode_0 : cX3_isCode.data.toList.drop 0 = dktX3_isCode_0 := by decide +kernel
theorem dksX3_isCode_1 : cX3_isCode.data.toList.drop 24 = dktX3_isCode_1 := dk_seg dksX3_isCode_0 24 rfl rfl
theorem dX3_isCode_0 : decode cX3_isCode 0 = .ok (.aload_n 0, 1) := dk_42 (dk_at dksX3_isCode_0 0 rfl rfl)
theorem dX3_isCode_1 : decode cX3_isCode 1 = .ok (.iload_n 1, 1) := dk_27 (dk_at dksX3_isCode_0 1 rfl rfl)
theorem dX3_isCode_2 : decode cX3_isCode 2 = .ok (.iconst 1, 1) := dk_4 (dk_at dksX3_isCode_0 2 rfl rfl)
theorem dX3_isCode_3 : decode cX3_isCode 3 = .ok (.bipush 40, 2) := dk_16 40 (dk_at dksX3_isCode_0 3 rfl rfl)
theorem dX3_isCode_5 : decode cX3_isCode 5 = .ok (.invokestatic 283, 3) := dk_184 1 27 (dk_at dksX3_isCode_0 5 rfl rfl)
theorem dX3_isCode_8 : decode cX3_isCode 8 = .ok (.ifCond .eq 16, 3) := dk_153 0 16 (dk_at dksX3_isCode_0 8 rfl rfl)
theorem dX3_isCode_11 : decode cX3_isCode 11 = .ok (.iload_n 2, 1) := dk_28 (dk_at dksX3_isCode_0 11 rfl rfl)
theorem dX3_isCode_12 : decode cX3_isCode 12 = .ok (.iconst 1, 1) := dk_4 (dk_at dksX3_isCode_0 12 rfl rfl)
theorem dX3_isCode_13 : decode cX3_isCode 13 = .ok (.iconst 3, 1) := dk_6 (dk_at dksX3_isCode_0 13 rfl rfl)
theorem dX3_isCode_14 : decode cX3_isCode 14 = .ok (.invokestatic 283, 3) := dk_184 1 27 (dk_at dksX3_isCode_0 14 rfl rfl)
theorem dX3_isCode_17 : decode cX3_isCode 17 = .ok (.ifCond .eq 7, 3) := dk_153 0 7 (dk_at dksX3_isCode_0 17 rfl rfl)
theorem dX3_isCode_20 : decode cX3_isCode 20 = .ok (.iconst 1, 1) := dk_4 (dk_at dksX3_isCode_0 20 rfl rfl)
theorem dX3_isCode_21 : decode cX3_isCode 21 = .ok (.goto 4, 3) := dk_167 0 4 (dk_at dksX3_isCode_0 21 rfl rfl)
theorem dX3_isCode_24 : decode cX3_isCode 24 = .ok (.iconst 0, 1) := dk_3 (dk_at dksX3_isCode_1 0 rfl rfl)
theorem dX3_isCode_25 : decode cX3_isCode 25 = .ok (.iconst 1, 1) := dk_4 (dk_at dksX3_isCode_1 1 rfl rfl)
theorem dX3_isCode_26 : decode cX3_isCode 26 = .ok (.invokevirtual 241, 3) := dk_182 0 241 (dk_at dksX3_isCode_1 2 rfl rfl)
theorem dX3_isCode_29 : decode cX3_isCode 29 = .ok (.ireturn, 1) := dk_172 (dk_at dksX3_isCode_1 5 rfl rfl)
def dkwX3_spells_4 : List UInt8 := [167, 255, 174, 177]
abbrev dktX3_spells_4 : List UInt8 := dkwX3_spells_4 ++ []
def dkwX3_spells_3 : List UInt8 := [180, 0, 116, 42, 180, 1, 151, 28, 79, 42, 89, 180, 1, 151, 4, 96, 181, 1, 151, 132, 2, 1]
abbrev dktX3_spells_3 : List UInt8 := dkwX3_spells_3 ++ dktX3_spells_4
def dkwX3_spells_2 : List UInt8 := [161, 0, 7, 4, 167, 0, 4, 3, 62, 132, 4, 1, 167, 255, 219, 29, 154, 0, 6, 167, 0, 23, 42]
abbrev dktX3_spells_2 : List UInt8 := dkwX3_spells_2 ++ dktX3_spells_3
def dkwX3_spells_1 : List UInt8 := [180, 1, 151, 162, 0, 34, 29, 153, 0, 30, 42, 180, 0, 116, 21, 4, 46, 28, 184, 1, 154, 27]
abbrev dktX3_spells_1 : List UInt8 := dkwX3_spells_1 ++ dktX3_spells_2
def dkwX3_spells_0 : List UInt8 := [42, 3, 181, 1, 151, 3, 61, 28, 17, 1, 0, 162, 0, 81, 4, 62, 3, 54, 4, 21, 4, 42]
abbrev dktX3_spells_0 : List UInt8 := dkwX3_spells_0 ++ dktX3_spells_1
theorem dksX3_spells_0 : cX3_spells.data.toList.drop 0 = dktX3_spells_0 := by decide +kernel
theorem dksX3_spells_1 : cX3_spells.data.toList.drop 22 = dktX3_spells_1 := dk_seg dksX3_spells_0 22 rfl rfl
theorem dksX3_spells_2 : cX3_spells.data.toList.drop 44 = dktX3_spells_2 := dk_seg dksX3_spells_1 22 rfl rfl
theorem dksX3_spells_3 : cX3_spells.data.toList.drop 67 = dktX3_spells_3 := dk_seg dksX3_spells_2 23 rfl rfl
theorem dksX3_spells_4 : cX3_spells.data.toList.drop 89 = dktX3_spells_4 := dk_seg dksX3_spells_3 22 rfl rfl
theorem dX3_spells_0 : decode cX3_spells 0 = .ok (.aload_n 0, 1) := dk_42 (dk_at dksX3_spells_0 0 rfl rfl)
theorem dX3_spells_1 : decode cX3_spells 1 = .ok (.iconst 0, 1) := dk_3 (dk_at dksX3_spells_0 1 rfl rfl)
theorem dX3_spells_2 : decode cX3_spells 2 = .ok (.putfield 407, 3) := dk_181 1 151 (dk_at dksX3_spells_0 2 rfl rfl)
theorem dX3_spells_5 : decode cX3_spells 5 = .ok (.iconst 0, 1) := dk_3 (dk_at dksX3_spells_0 5 rfl rfl)
theorem dX3_spells_6 : decode cX3_spells 6 = .ok (.istore_n 2, 1) := dk_61 (dk_at dksX3_spells_0 6 rfl rfl)
theorem dX3_spells_7 : decode cX3_spells 7 = .ok (.iload_n 2, 1) := dk_28 (dk_at dksX3_spells_0 7 rfl rfl)
theorem dX3_spells_8 : decode cX3_spells 8 = .ok (.sipush 256, 3) := dk_17 1 0 (dk_at dksX3_spells_0 8 rfl rfl)
theorem dX3_spells_11 : decode cX3_spells 11 = .ok (.if_icmp .ge 81, 3) := dk_162 0 81 (dk_at dksX3_spells_0 11 rfl rfl)
theorem dX3_spells_14 : decode cX3_spells 14 = .ok (.iconst 1, 1) := dk_4 (dk_at dksX3_spells_0 14 rfl rfl)
theorem dX3_spells_15 : decode cX3_spells 15 = .ok (.istore_n 3, 1) := dk_62 (dk_at dksX3_spells_0 15 rfl rfl)
theorem dX3_spells_16 : decode cX3_spells 16 = .ok (.iconst 0, 1) := dk_3 (dk_at dksX3_spells_0 16 rfl rfl)
theorem dX3_spells_17 : decode cX3_spells 17 = .ok (.istore 4, 2) := dk_54 4 (dk_at dksX3_spells_0 17 rfl rfl)
theorem dX3_spells_19 : decode cX3_spells 19 = .ok (.iload 4, 2) := dk_21 4 (dk_at dksX3_spells_0 19 rfl rfl)
theorem dX3_spells_21 : decode cX3_spells 21 = .ok (.aload_n 0, 1) := dk_42 (dk_at dksX3_spells_0 21 rfl rfl)
theorem dX3_spells_22 : decode cX3_spells 22 = .ok (.getfield 407, 3) := dk_180 1 151 (dk_at dksX3_spells_1 0 rfl rfl)
theorem dX3_spells_25 : decode cX3_spells 25 = .ok (.if_icmp .ge 34, 3) := dk_162 0 34 (dk_at dksX3_spells_1 3 rfl rfl)
theorem dX3_spells_28 : decode cX3_spells 28 = .ok (.iload_n 3, 1) := dk_29 (dk_at dksX3_spells_1 6 rfl rfl)
theorem dX3_spells_29 : decode cX3_spells 29 = .ok (.ifCond .eq 30, 3) := dk_153 0 30 (dk_at dksX3_spells_1 7 rfl rfl)
theorem dX3_spells_32 : decode cX3_spells 32 = .ok (.aload_n 0, 1) := dk_42 (dk_at dksX3_spells_1 10 rfl rfl)
theorem dX3_spells_33 : decode cX3_spells 33 = .ok (.getfield 116, 3) := dk_180 0 116 (dk_at dksX3_spells_1 11 rfl rfl)
theorem dX3_spells_36 : decode cX3_spells 36 = .ok (.iload 4, 2) := dk_21 4 (dk_at dksX3_spells_1 14 rfl rfl)
theorem dX3_spells_38 : decode cX3_spells 38 = .ok (.iaload, 1) := dk_46 (dk_at dksX3_spells_1 16 rfl rfl)
theorem dX3_spells_39 : decode cX3_spells 39 = .ok (.iload_n 2, 1) := dk_28 (dk_at dksX3_spells_1 17 rfl rfl)
theorem dX3_spells_40 : decode cX3_spells 40 = .ok (.invokestatic 410, 3) := dk_184 1 154 (dk_at dksX3_spells_1 18 rfl rfl)
theorem dX3_spells_43 : decode cX3_spells 43 = .ok (.iload_n 1, 1) := dk_27 (dk_at dksX3_spells_1 21 rfl rfl)
theorem dX3_spells_44 : decode cX3_spells 44 = .ok (.if_icmp .lt 7, 3) := dk_161 0 7 (dk_at dksX3_spells_2 0 rfl rfl)
theorem dX3_spells_47 : decode cX3_spells 47 = .ok (.iconst 1, 1) := dk_4 (dk_at dksX3_spells_2 3 rfl rfl)
theorem dX3_spells_48 : decode cX3_spells 48 = .ok (.goto 4, 3) := dk_167 0 4 (dk_at dksX3_spells_2 4 rfl rfl)
theorem dX3_spells_51 : decode cX3_spells 51 = .ok (.iconst 0, 1) := dk_3 (dk_at dksX3_spells_2 7 rfl rfl)
theorem dX3_spells_52 : decode cX3_spells 52 = .ok (.istore_n 3, 1) := dk_62 (dk_at dksX3_spells_2 8 rfl rfl)
theorem dX3_spells_53 : decode cX3_spells 53 = .ok (.iinc 4 1, 3) := dk_132 4 1 (dk_at dksX3_spells_2 9 rfl rfl)
theorem dX3_spells_56 : decode cX3_spells 56 = .ok (.goto (-37), 3) := dk_167 255 219 (dk_at dksX3_spells_2 12 rfl rfl)
theorem dX3_spells_59 : decode cX3_spells 59 = .ok (.iload_n 3, 1) := dk_29 (dk_at dksX3_spells_2 15 rfl rfl)
theorem dX3_spells_60 : decode cX3_spells 60 = .ok (.ifCond .ne 6, 3) := dk_154 0 6 (dk_at dksX3_spells_2 16 rfl rfl)
theorem dX3_spells_63 : decode cX3_spells 63 = .ok (.goto 23, 3) := dk_167 0 23 (dk_at dksX3_spells_2 19 rfl rfl)
theorem dX3_spells_66 : decode cX3_spells 66 = .ok (.aload_n 0, 1) := dk_42 (dk_at dksX3_spells_2 22 rfl rfl)
theorem dX3_spells_67 : decode cX3_spells 67 = .ok (.getfield 116, 3) := dk_180 0 116 (dk_at dksX3_spells_3 0 rfl rfl)
theorem dX3_spells_70 : decode cX3_spells 70 = .ok (.aload_n 0, 1) := dk_42 (dk_at dksX3_spells_3 3 rfl rfl)
theorem dX3_spells_71 : decode cX3_spells 71 = .ok (.getfield 407, 3) := dk_180 1 151 (dk_at dksX3_spells_3 4 rfl rfl)
theorem dX3_spells_74 : decode cX3_spells 74 = .ok (.iload_n 2, 1) := dk_28 (dk_at dksX3_spells_3 7 rfl rfl)
theorem dX3_spells_75 : decode cX3_spells 75 = .ok (.iastore, 1) := dk_79 (dk_at dksX3_spells_3 8 rfl rfl)
theorem dX3_spells_76 : decode cX3_spells 76 = .ok (.aload_n 0, 1) := dk_42 (dk_at dksX3_spells_3 9 rfl rfl)
theorem dX3_spells_77 : decode cX3_spells 77 = .ok (.dup, 1) := dk_89 (dk_at dksX3_spells_3 10 rfl rfl)
theorem dX3_spells_78 : decode cX3_spells 78 = .ok (.getfield 407, 3) := dk_180 1 151 (dk_at dksX3_spells_3 11 rfl rfl)
theorem dX3_spells_81 : decode cX3_spells 81 = .ok (.iconst 1, 1) := dk_4 (dk_at dksX3_spells_3 14 rfl rfl)
theorem dX3_spells_82 : decode cX3_spells 82 = .ok (.iadd, 1) := dk_96 (dk_at dksX3_spells_3 15 rfl rfl)
theorem dX3_spells_83 : decode cX3_spells 83 = .ok (.putfield 407, 3) := dk_181 1 151 (dk_at dksX3_spells_3 16 rfl rfl)
theorem dX3_spells_86 : decode cX3_spells 86 = .ok (.iinc 2 1, 3) := dk_132 2 1 (dk_at dksX3_spells_3 19 rfl rfl)
theorem dX3_spells_89 : decode cX3_spells 89 = .ok (.goto (-82), 3) := dk_167 255 174 (dk_at dksX3_spells_4 0 rfl rfl)
theorem dX3_spells_92 : decode cX3_spells 92 = .ok (.return_, 1) := dk_177 (dk_at dksX3_spells_4 3 rfl rfl)
def dkwX3_apart_1 : List UInt8 := [132, 3, 1, 167, 255, 235, 28, 172]
abbrev dktX3_apart_1 : List UInt8 := dkwX3_apart_1 ++ []
def dkwX3_apart_0 : List UInt8 := [3, 61, 3, 62, 29, 16, 8, 162, 0, 21, 28, 26, 29, 122, 27, 29, 122, 130, 4, 126, 96, 61]
abbrev dktX3_apart_0 : List UInt8 := dkwX3_apart_0 ++ dktX3_apart_1
theorem dksX3_apart_0 : cX3_apart.data.toList.drop 0 = dktX3_apart_0 := by decide +kernel
theorem dksX3_apart_1 : cX3_apart.data.toList.drop 22 = dktX3_apart_1 := dk_seg dksX3_apart_0 22 rfl rfl
theorem dX3_apart_0 : decode cX3_apart 0 = .ok (.iconst 0, 1) := dk_3 (dk_at dksX3_apart_0 0 rfl rfl)
theorem dX3_apart_1 : decode cX3_apart 1 = .ok (.istore_n 2, 1) := dk_61 (dk_at dksX3_apart_0 1 rfl rfl)
theorem dX3_apart_2 : decode cX3_apart 2 = .ok (.iconst 0, 1) := dk_3 (dk_at dksX3_apart_0 2 rfl rfl)
theorem dX3_apart_3 : decode cX3_apart 3 = .ok (.istore_n 3, 1) := dk_62 (dk_at dksX3_apart_0 3 rfl rfl)
theorem dX3_apart_4 : decode cX3_apart 4 = .ok (.iload_n 3, 1) := dk_29 (dk_at dksX3_apart_0 4 rfl rfl)
theorem dX3_apart_5 : decode cX3_apart 5 = .ok (.bipush 8, 2) := dk_16 8 (dk_at dksX3_apart_0 5 rfl rfl)
theorem dX3_apart_7 : decode cX3_apart 7 = .ok (.if_icmp .ge 21, 3) := dk_162 0 21 (dk_at dksX3_apart_0 7 rfl rfl)
theorem dX3_apart_10 : decode cX3_apart 10 = .ok (.iload_n 2, 1) := dk_28 (dk_at dksX3_apart_0 10 rfl rfl)
theorem dX3_apart_11 : decode cX3_apart 11 = .ok (.iload_n 0, 1) := dk_26 (dk_at dksX3_apart_0 11 rfl rfl)
theorem dX3_apart_12 : decode cX3_apart 12 = .ok (.iload_n 3, 1) := dk_29 (dk_at dksX3_apart_0 12 rfl rfl)
theorem dX3_apart_13 : decode cX3_apart 13 = .ok (.ishr, 1) := dk_122 (dk_at dksX3_apart_0 13 rfl rfl)
theorem dX3_apart_14 : decode cX3_apart 14 = .ok (.iload_n 1, 1) := dk_27 (dk_at dksX3_apart_0 14 rfl rfl)
theorem dX3_apart_15 : decode cX3_apart 15 = .ok (.iload_n 3, 1) := dk_29 (dk_at dksX3_apart_0 15 rfl rfl)
theorem dX3_apart_16 : decode cX3_apart 16 = .ok (.ishr, 1) := dk_122 (dk_at dksX3_apart_0 16 rfl rfl)
theorem dX3_apart_17 : decode cX3_apart 17 = .ok (.ixor, 1) := dk_130 (dk_at dksX3_apart_0 17 rfl rfl)
theorem dX3_apart_18 : decode cX3_apart 18 = .ok (.iconst 1, 1) := dk_4 (dk_at dksX3_apart_0 18 rfl rfl)
theorem dX3_apart_19 : decode cX3_apart 19 = .ok (.iand, 1) := dk_126 (dk_at dksX3_apart_0 19 rfl rfl)
theorem dX3_apart_20 : decode cX3_apart 20 = .ok (.iadd, 1) := dk_96 (dk_at dksX3_apart_0 20 rfl rfl)
theorem dX3_apart_21 : decode cX3_apart 21 = .ok (.istore_n 2, 1) := dk_61 (dk_at dksX3_apart_0 21 rfl rfl)
theorem dX3_apart_22 : decode cX3_apart 22 = .ok (.iinc 3 1, 3) := dk_132 3 1 (dk_at dksX3_apart_1 0 rfl rfl)
theorem dX3_apart_25 : decode cX3_apart 25 = .ok (.goto (-21), 3) := dk_167 255 235 (dk_at dksX3_apart_1 3 rfl rfl)
theorem dX3_apart_28 : decode cX3_apart 28 = .ok (.iload_n 2, 1) := dk_28 (dk_at dksX3_apart_1 6 rfl rfl)
theorem dX3_apart_29 : decode cX3_apart 29 = .ok (.ireturn, 1) := dk_172 (dk_at dksX3_apart_1 7 rfl rfl)
def dkwX3_word_2 : List UInt8 := [162, 0, 12, 42, 180, 0, 116, 27, 46, 167, 0, 4, 2, 172]
abbrev dktX3_word_2 : List UInt8 := dkwX3_word_2 ++ []
def dkwX3_word_1 : List UInt8 := [184, 1, 27, 5, 182, 0, 241, 154, 0, 5, 3, 172, 42, 28, 182, 1, 160, 27, 42, 180, 1, 151]
abbrev dktX3_word_1 : List UInt8 := dkwX3_word_1 ++ dktX3_word_2
def dkwX3_word_0 : List UInt8 := [42, 3, 181, 0, 134, 42, 27, 3, 16, 39, 184, 1, 27, 4, 182, 0, 241, 153, 0, 17, 42, 28, 4, 6]
abbrev dktX3_word_0 : List UInt8 := dkwX3_word_0 ++ dktX3_word_1
theorem dksX3_word_0 : cX3_word.data.toList.drop 0 = dktX3_word_0 := by decide +kernel
theorem dksX3_word_1 : cX3_word.data.toList.drop 24 = dktX3_word_1 := dk_seg dksX3_word_0 24 rfl rfl
theorem dksX3_word_2 : cX3_word.data.toList.drop 46 = dktX3_word_2 := dk_seg dksX3_word_1 22 rfl rfl
theorem dX3_word_0 : decode cX3_word 0 = .ok (.aload_n 0, 1) := dk_42 (dk_at dksX3_word_0 0 rfl rfl)
theorem dX3_word_1 : decode cX3_word 1 = .ok (.iconst 0, 1) := dk_3 (dk_at dksX3_word_0 1 rfl rfl)
theorem dX3_word_2 : decode cX3_word 2 = .ok (.putfield 134, 3) := dk_181 0 134 (dk_at dksX3_word_0 2 rfl rfl)
theorem dX3_word_5 : decode cX3_word 5 = .ok (.aload_n 0, 1) := dk_42 (dk_at dksX3_word_0 5 rfl rfl)
theorem dX3_word_6 : decode cX3_word 6 = .ok (.iload_n 1, 1) := dk_27 (dk_at dksX3_word_0 6 rfl rfl)
theorem dX3_word_7 : decode cX3_word 7 = .ok (.iconst 0, 1) := dk_3 (dk_at dksX3_word_0 7 rfl rfl)
theorem dX3_word_8 : decode cX3_word 8 = .ok (.bipush 39, 2) := dk_16 39 (dk_at dksX3_word_0 8 rfl rfl)
theorem dX3_word_10 : decode cX3_word 10 = .ok (.invokestatic 283, 3) := dk_184 1 27 (dk_at dksX3_word_0 10 rfl rfl)
theorem dX3_word_13 : decode cX3_word 13 = .ok (.iconst 1, 1) := dk_4 (dk_at dksX3_word_0 13 rfl rfl)
theorem dX3_word_14 : decode cX3_word 14 = .ok (.invokevirtual 241, 3) := dk_182 0 241 (dk_at dksX3_word_0 14 rfl rfl)
theorem dX3_word_17 : decode cX3_word 17 = .ok (.ifCond .eq 17, 3) := dk_153 0 17 (dk_at dksX3_word_0 17 rfl rfl)
theorem dX3_word_20 : decode cX3_word 20 = .ok (.aload_n 0, 1) := dk_42 (dk_at dksX3_word_0 20 rfl rfl)
theorem dX3_word_21 : decode cX3_word 21 = .ok (.iload_n 2, 1) := dk_28 (dk_at dksX3_word_0 21 rfl rfl)
theorem dX3_word_22 : decode cX3_word 22 = .ok (.iconst 1, 1) := dk_4 (dk_at dksX3_word_0 22 rfl rfl)
theorem dX3_word_23 : decode cX3_word 23 = .ok (.iconst 3, 1) := dk_6 (dk_at dksX3_word_0 23 rfl rfl)
theorem dX3_word_24 : decode cX3_word 24 = .ok (.invokestatic 283, 3) := dk_184 1 27 (dk_at dksX3_word_1 0 rfl rfl)
theorem dX3_word_27 : decode cX3_word 27 = .ok (.iconst 2, 1) := dk_5 (dk_at dksX3_word_1 3 rfl rfl)
theorem dX3_word_28 : decode cX3_word 28 = .ok (.invokevirtual 241, 3) := dk_182 0 241 (dk_at dksX3_word_1 4 rfl rfl)
theorem dX3_word_31 : decode cX3_word 31 = .ok (.ifCond .ne 5, 3) := dk_154 0 5 (dk_at dksX3_word_1 7 rfl rfl)
theorem dX3_word_34 : decode cX3_word 34 = .ok (.iconst 0, 1) := dk_3 (dk_at dksX3_word_1 10 rfl rfl)
theorem dX3_word_35 : decode cX3_word 35 = .ok (.ireturn, 1) := dk_172 (dk_at dksX3_word_1 11 rfl rfl)
theorem dX3_word_36 : decode cX3_word 36 = .ok (.aload_n 0, 1) := dk_42 (dk_at dksX3_word_1 12 rfl rfl)
theorem dX3_word_37 : decode cX3_word 37 = .ok (.iload_n 2, 1) := dk_28 (dk_at dksX3_word_1 13 rfl rfl)
theorem dX3_word_38 : decode cX3_word 38 = .ok (.invokevirtual 416, 3) := dk_182 1 160 (dk_at dksX3_word_1 14 rfl rfl)
theorem dX3_word_41 : decode cX3_word 41 = .ok (.iload_n 1, 1) := dk_27 (dk_at dksX3_word_1 17 rfl rfl)
theorem dX3_word_42 : decode cX3_word 42 = .ok (.aload_n 0, 1) := dk_42 (dk_at dksX3_word_1 18 rfl rfl)
theorem dX3_word_43 : decode cX3_word 43 = .ok (.getfield 407, 3) := dk_180 1 151 (dk_at dksX3_word_1 19 rfl rfl)
theorem dX3_word_46 : decode cX3_word 46 = .ok (.if_icmp .ge 12, 3) := dk_162 0 12 (dk_at dksX3_word_2 0 rfl rfl)
theorem dX3_word_49 : decode cX3_word 49 = .ok (.aload_n 0, 1) := dk_42 (dk_at dksX3_word_2 3 rfl rfl)
theorem dX3_word_50 : decode cX3_word 50 = .ok (.getfield 116, 3) := dk_180 0 116 (dk_at dksX3_word_2 4 rfl rfl)
theorem dX3_word_53 : decode cX3_word 53 = .ok (.iload_n 1, 1) := dk_27 (dk_at dksX3_word_2 7 rfl rfl)
theorem dX3_word_54 : decode cX3_word 54 = .ok (.iaload, 1) := dk_46 (dk_at dksX3_word_2 8 rfl rfl)
theorem dX3_word_55 : decode cX3_word 55 = .ok (.goto 4, 3) := dk_167 0 4 (dk_at dksX3_word_2 9 rfl rfl)
theorem dX3_word_58 : decode cX3_word 58 = .ok (.iconst (-1), 1) := dk_2 (dk_at dksX3_word_2 12 rfl rfl)
theorem dX3_word_59 : decode cX3_word 59 = .ok (.ireturn, 1) := dk_172 (dk_at dksX3_word_2 13 rfl rfl)
def dkwX3_mend_5 : List UInt8 := [27, 184, 1, 154, 104, 29, 4, 100, 163, 0, 8, 21, 4, 167, 0, 4, 2, 172]
abbrev dktX3_mend_5 : List UInt8 := dkwX3_mend_5 ++ []
def dkwX3_mend_4 : List UInt8 := [184, 1, 154, 162, 0, 7, 21, 5, 54, 4, 132, 5, 1, 167, 255, 218, 5, 42, 180, 0, 116, 21, 4, 46]
abbrev dktX3_mend_4 : List UInt8 := dkwX3_mend_4 ++ dktX3_mend_5
def dkwX3_mend_3 : List UInt8 := [162, 0, 38, 42, 180, 0, 116, 21, 5, 46, 27, 184, 1, 154, 42, 180, 0, 116, 21, 4, 46, 27]
abbrev dktX3_mend_3 : List UInt8 := dkwX3_mend_3 ++ dktX3_mend_4
def dkwX3_mend_2 : List UInt8 := [167, 0, 4, 3, 4, 182, 0, 241, 154, 0, 5, 3, 172, 3, 54, 4, 4, 54, 5, 21, 5, 28]
abbrev dktX3_mend_2 : List UInt8 := dkwX3_mend_2 ++ dktX3_mend_3
def dkwX3_mend_1 : List UInt8 := [182, 0, 241, 154, 0, 5, 3, 172, 42, 29, 182, 1, 160, 42, 28, 42, 180, 1, 151, 163, 0, 7, 4]
abbrev dktX3_mend_1 : List UInt8 := dkwX3_mend_1 ++ dktX3_mend_2
def dkwX3_mend_0 : List UInt8 := [42, 3, 181, 0, 134, 42, 28, 29, 182, 1, 157, 153, 0, 19, 42, 27, 3, 17, 0, 255, 184, 1, 27, 4]
abbrev dktX3_mend_0 : List UInt8 := dkwX3_mend_0 ++ dktX3_mend_1
theorem dksX3_mend_0 : cX3_mend.data.toList.drop 0 = dktX3_mend_0 := by decide +kernel
theorem dksX3_mend_1 : cX3_mend.data.toList.drop 24 = dktX3_mend_1 := dk_seg dksX3_mend_0 24 rfl rfl
theorem dksX3_mend_2 : cX3_mend.data.toList.drop 47 = dktX3_mend_2 := dk_seg dksX3_mend_1 23 rfl rfl
theorem dksX3_mend_3 : cX3_mend.data.toList.drop 69 = dktX3_mend_3 := dk_seg dksX3_mend_2 22 rfl rfl
theorem dksX3_mend_4 : cX3_mend.data.toList.drop 91 = dktX3_mend_4 := dk_seg dksX3_mend_3 22 rfl rfl
theorem dksX3_mend_5 : cX3_mend.data.toList.drop 115 = dktX3_mend_5 := dk_seg dksX3_mend_4 24 rfl rfl
theorem dX3_mend_0 : decode cX3_mend 0 = .ok (.aload_n 0, 1) := dk_42 (dk_at dksX3_mend_0 0 rfl rfl)
theorem dX3_mend_1 : decode cX3_mend 1 = .ok (.iconst 0, 1) := dk_3 (dk_at dksX3_mend_0 1 rfl rfl)
theorem dX3_mend_2 : decode cX3_mend 2 = .ok (.putfield 134, 3) := dk_181 0 134 (dk_at dksX3_mend_0 2 rfl rfl)
theorem dX3_mend_5 : decode cX3_mend 5 = .ok (.aload_n 0, 1) := dk_42 (dk_at dksX3_mend_0 5 rfl rfl)
theorem dX3_mend_6 : decode cX3_mend 6 = .ok (.iload_n 2, 1) := dk_28 (dk_at dksX3_mend_0 6 rfl rfl)
theorem dX3_mend_7 : decode cX3_mend 7 = .ok (.iload_n 3, 1) := dk_29 (dk_at dksX3_mend_0 7 rfl rfl)
theorem dX3_mend_8 : decode cX3_mend 8 = .ok (.invokevirtual 413, 3) := dk_182 1 157 (dk_at dksX3_mend_0 8 rfl rfl)
theorem dX3_mend_11 : decode cX3_mend 11 = .ok (.ifCond .eq 19, 3) := dk_153 0 19 (dk_at dksX3_mend_0 11 rfl rfl)
theorem dX3_mend_14 : decode cX3_mend 14 = .ok (.aload_n 0, 1) := dk_42 (dk_at dksX3_mend_0 14 rfl rfl)
theorem dX3_mend_15 : decode cX3_mend 15 = .ok (.iload_n 1, 1) := dk_27 (dk_at dksX3_mend_0 15 rfl rfl)
theorem dX3_mend_16 : decode cX3_mend 16 = .ok (.iconst 0, 1) := dk_3 (dk_at dksX3_mend_0 16 rfl rfl)
theorem dX3_mend_17 : decode cX3_mend 17 = .ok (.sipush 255, 3) := dk_17 0 255 (dk_at dksX3_mend_0 17 rfl rfl)
theorem dX3_mend_20 : decode cX3_mend 20 = .ok (.invokestatic 283, 3) := dk_184 1 27 (dk_at dksX3_mend_0 20 rfl rfl)
theorem dX3_mend_23 : decode cX3_mend 23 = .ok (.iconst 1, 1) := dk_4 (dk_at dksX3_mend_0 23 rfl rfl)
theorem dX3_mend_24 : decode cX3_mend 24 = .ok (.invokevirtual 241, 3) := dk_182 0 241 (dk_at dksX3_mend_1 0 rfl rfl)
theorem dX3_mend_27 : decode cX3_mend 27 = .ok (.ifCond .ne 5, 3) := dk_154 0 5 (dk_at dksX3_mend_1 3 rfl rfl)
theorem dX3_mend_30 : decode cX3_mend 30 = .ok (.iconst 0, 1) := dk_3 (dk_at dksX3_mend_1 6 rfl rfl)
theorem dX3_mend_31 : decode cX3_mend 31 = .ok (.ireturn, 1) := dk_172 (dk_at dksX3_mend_1 7 rfl rfl)
theorem dX3_mend_32 : decode cX3_mend 32 = .ok (.aload_n 0, 1) := dk_42 (dk_at dksX3_mend_1 8 rfl rfl)
theorem dX3_mend_33 : decode cX3_mend 33 = .ok (.iload_n 3, 1) := dk_29 (dk_at dksX3_mend_1 9 rfl rfl)
theorem dX3_mend_34 : decode cX3_mend 34 = .ok (.invokevirtual 416, 3) := dk_182 1 160 (dk_at dksX3_mend_1 10 rfl rfl)
theorem dX3_mend_37 : decode cX3_mend 37 = .ok (.aload_n 0, 1) := dk_42 (dk_at dksX3_mend_1 13 rfl rfl)
theorem dX3_mend_38 : decode cX3_mend 38 = .ok (.iload_n 2, 1) := dk_28 (dk_at dksX3_mend_1 14 rfl rfl)
theorem dX3_mend_39 : decode cX3_mend 39 = .ok (.aload_n 0, 1) := dk_42 (dk_at dksX3_mend_1 15 rfl rfl)
theorem dX3_mend_40 : decode cX3_mend 40 = .ok (.getfield 407, 3) := dk_180 1 151 (dk_at dksX3_mend_1 16 rfl rfl)
theorem dX3_mend_43 : decode cX3_mend 43 = .ok (.if_icmp .gt 7, 3) := dk_163 0 7 (dk_at dksX3_mend_1 19 rfl rfl)
theorem dX3_mend_46 : decode cX3_mend 46 = .ok (.iconst 1, 1) := dk_4 (dk_at dksX3_mend_1 22 rfl rfl)
theorem dX3_mend_47 : decode cX3_mend 47 = .ok (.goto 4, 3) := dk_167 0 4 (dk_at dksX3_mend_2 0 rfl rfl)
theorem dX3_mend_50 : decode cX3_mend 50 = .ok (.iconst 0, 1) := dk_3 (dk_at dksX3_mend_2 3 rfl rfl)
theorem dX3_mend_51 : decode cX3_mend 51 = .ok (.iconst 1, 1) := dk_4 (dk_at dksX3_mend_2 4 rfl rfl)
theorem dX3_mend_52 : decode cX3_mend 52 = .ok (.invokevirtual 241, 3) := dk_182 0 241 (dk_at dksX3_mend_2 5 rfl rfl)
theorem dX3_mend_55 : decode cX3_mend 55 = .ok (.ifCond .ne 5, 3) := dk_154 0 5 (dk_at dksX3_mend_2 8 rfl rfl)
theorem dX3_mend_58 : decode cX3_mend 58 = .ok (.iconst 0, 1) := dk_3 (dk_at dksX3_mend_2 11 rfl rfl)
theorem dX3_mend_59 : decode cX3_mend 59 = .ok (.ireturn, 1) := dk_172 (dk_at dksX3_mend_2 12 rfl rfl)
theorem dX3_mend_60 : decode cX3_mend 60 = .ok (.iconst 0, 1) := dk_3 (dk_at dksX3_mend_2 13 rfl rfl)
theorem dX3_mend_61 : decode cX3_mend 61 = .ok (.istore 4, 2) := dk_54 4 (dk_at dksX3_mend_2 14 rfl rfl)
theorem dX3_mend_63 : decode cX3_mend 63 = .ok (.iconst 1, 1) := dk_4 (dk_at dksX3_mend_2 16 rfl rfl)
theorem dX3_mend_64 : decode cX3_mend 64 = .ok (.istore 5, 2) := dk_54 5 (dk_at dksX3_mend_2 17 rfl rfl)
theorem dX3_mend_66 : decode cX3_mend 66 = .ok (.iload 5, 2) := dk_21 5 (dk_at dksX3_mend_2 19 rfl rfl)
theorem dX3_mend_68 : decode cX3_mend 68 = .ok (.iload_n 2, 1) := dk_28 (dk_at dksX3_mend_2 21 rfl rfl)
theorem dX3_mend_69 : decode cX3_mend 69 = .ok (.if_icmp .ge 38, 3) := dk_162 0 38 (dk_at dksX3_mend_3 0 rfl rfl)
theorem dX3_mend_72 : decode cX3_mend 72 = .ok (.aload_n 0, 1) := dk_42 (dk_at dksX3_mend_3 3 rfl rfl)
theorem dX3_mend_73 : decode cX3_mend 73 = .ok (.getfield 116, 3) := dk_180 0 116 (dk_at dksX3_mend_3 4 rfl rfl)
theorem dX3_mend_76 : decode cX3_mend 76 = .ok (.iload 5, 2) := dk_21 5 (dk_at dksX3_mend_3 7 rfl rfl)
theorem dX3_mend_78 : decode cX3_mend 78 = .ok (.iaload, 1) := dk_46 (dk_at dksX3_mend_3 9 rfl rfl)
theorem dX3_mend_79 : decode cX3_mend 79 = .ok (.iload_n 1, 1) := dk_27 (dk_at dksX3_mend_3 10 rfl rfl)
theorem dX3_mend_80 : decode cX3_mend 80 = .ok (.invokestatic 410, 3) := dk_184 1 154 (dk_at dksX3_mend_3 11 rfl rfl)
theorem dX3_mend_83 : decode cX3_mend 83 = .ok (.aload_n 0, 1) := dk_42 (dk_at dksX3_mend_3 14 rfl rfl)
theorem dX3_mend_84 : decode cX3_mend 84 = .ok (.getfield 116, 3) := dk_180 0 116 (dk_at dksX3_mend_3 15 rfl rfl)
theorem dX3_mend_87 : decode cX3_mend 87 = .ok (.iload 4, 2) := dk_21 4 (dk_at dksX3_mend_3 18 rfl rfl)
theorem dX3_mend_89 : decode cX3_mend 89 = .ok (.iaload, 1) := dk_46 (dk_at dksX3_mend_3 20 rfl rfl)
theorem dX3_mend_90 : decode cX3_mend 90 = .ok (.iload_n 1, 1) := dk_27 (dk_at dksX3_mend_3 21 rfl rfl)
theorem dX3_mend_91 : decode cX3_mend 91 = .ok (.invokestatic 410, 3) := dk_184 1 154 (dk_at dksX3_mend_4 0 rfl rfl)
theorem dX3_mend_94 : decode cX3_mend 94 = .ok (.if_icmp .ge 7, 3) := dk_162 0 7 (dk_at dksX3_mend_4 3 rfl rfl)
theorem dX3_mend_97 : decode cX3_mend 97 = .ok (.iload 5, 2) := dk_21 5 (dk_at dksX3_mend_4 6 rfl rfl)
theorem dX3_mend_99 : decode cX3_mend 99 = .ok (.istore 4, 2) := dk_54 4 (dk_at dksX3_mend_4 8 rfl rfl)
theorem dX3_mend_101 : decode cX3_mend 101 = .ok (.iinc 5 1, 3) := dk_132 5 1 (dk_at dksX3_mend_4 10 rfl rfl)
theorem dX3_mend_104 : decode cX3_mend 104 = .ok (.goto (-38), 3) := dk_167 255 218 (dk_at dksX3_mend_4 13 rfl rfl)
theorem dX3_mend_107 : decode cX3_mend 107 = .ok (.iconst 2, 1) := dk_5 (dk_at dksX3_mend_4 16 rfl rfl)
theorem dX3_mend_108 : decode cX3_mend 108 = .ok (.aload_n 0, 1) := dk_42 (dk_at dksX3_mend_4 17 rfl rfl)
theorem dX3_mend_109 : decode cX3_mend 109 = .ok (.getfield 116, 3) := dk_180 0 116 (dk_at dksX3_mend_4 18 rfl rfl)
theorem dX3_mend_112 : decode cX3_mend 112 = .ok (.iload 4, 2) := dk_21 4 (dk_at dksX3_mend_4 21 rfl rfl)
theorem dX3_mend_114 : decode cX3_mend 114 = .ok (.iaload, 1) := dk_46 (dk_at dksX3_mend_4 23 rfl rfl)
theorem dX3_mend_115 : decode cX3_mend 115 = .ok (.iload_n 1, 1) := dk_27 (dk_at dksX3_mend_5 0 rfl rfl)
theorem dX3_mend_116 : decode cX3_mend 116 = .ok (.invokestatic 410, 3) := dk_184 1 154 (dk_at dksX3_mend_5 1 rfl rfl)
theorem dX3_mend_119 : decode cX3_mend 119 = .ok (.imul, 1) := dk_104 (dk_at dksX3_mend_5 4 rfl rfl)
theorem dX3_mend_120 : decode cX3_mend 120 = .ok (.iload_n 3, 1) := dk_29 (dk_at dksX3_mend_5 5 rfl rfl)
theorem dX3_mend_121 : decode cX3_mend 121 = .ok (.iconst 1, 1) := dk_4 (dk_at dksX3_mend_5 6 rfl rfl)
theorem dX3_mend_122 : decode cX3_mend 122 = .ok (.isub, 1) := dk_100 (dk_at dksX3_mend_5 7 rfl rfl)
theorem dX3_mend_123 : decode cX3_mend 123 = .ok (.if_icmp .gt 8, 3) := dk_163 0 8 (dk_at dksX3_mend_5 8 rfl rfl)
theorem dX3_mend_126 : decode cX3_mend 126 = .ok (.iload 4, 2) := dk_21 4 (dk_at dksX3_mend_5 11 rfl rfl)
theorem dX3_mend_128 : decode cX3_mend 128 = .ok (.goto 4, 3) := dk_167 0 4 (dk_at dksX3_mend_5 13 rfl rfl)
theorem dX3_mend_131 : decode cX3_mend 131 = .ok (.iconst (-1), 1) := dk_2 (dk_at dksX3_mend_5 16 rfl rfl)
theorem dX3_mend_132 : decode cX3_mend 132 = .ok (.ireturn, 1) := dk_172 (dk_at dksX3_mend_5 17 rfl rfl)
def dkwX3_fire_8 : List UInt8 := [167, 0, 9, 21, 9, 21, 10, 108, 133, 173]
abbrev dktX3_fire_8 : List UInt8 := dkwX3_fire_8 ++ []
def dkwX3_fire_7 : List UInt8 := [54, 10, 21, 12, 54, 11, 167, 255, 236, 21, 5, 154, 0, 15, 21, 9, 21, 8, 100, 21, 10, 108, 133]
abbrev dktX3_fire_7 : List UInt8 := dkwX3_fire_7 ++ dktX3_fire_8
def dkwX3_fire_6 : List UInt8 := [54, 10, 21, 9, 21, 8, 100, 54, 11, 21, 11, 153, 0, 21, 21, 10, 21, 11, 112, 54, 12, 21, 11]
abbrev dktX3_fire_6 : List UInt8 := dkwX3_fire_6 ++ dktX3_fire_7
def dkwX3_fire_5 : List UInt8 := [16, 10, 21, 4, 100, 104, 54, 8, 21, 9, 16, 10, 104, 54, 9, 132, 10, 1, 167, 255, 229, 21, 9]
abbrev dktX3_fire_5 : List UInt8 := dkwX3_fire_5 ++ dktX3_fire_6
def dkwX3_fire_4 : List UInt8 := [167, 0, 4, 5, 54, 7, 4, 54, 8, 4, 54, 9, 3, 54, 10, 21, 10, 21, 7, 162, 0, 26, 21, 8]
abbrev dktX3_fire_4 : List UInt8 := dkwX3_fire_4 ++ dktX3_fire_5
def dkwX3_fire_3 : List UInt8 := [10, 173, 42, 180, 0, 16, 27, 46, 28, 184, 1, 163, 54, 6, 21, 6, 5, 162, 0, 8, 21, 6]
abbrev dktX3_fire_3 : List UInt8 := dkwX3_fire_3 ++ dktX3_fire_4
def dkwX3_fire_2 : List UInt8 := [5, 182, 0, 241, 154, 0, 5, 9, 173, 42, 180, 0, 65, 16, 24, 27, 104, 29, 96, 46, 4, 159, 0, 5]
abbrev dktX3_fire_2 : List UInt8 := dkwX3_fire_2 ++ dktX3_fire_3
def dkwX3_fire_1 : List UInt8 := [182, 1, 49, 153, 0, 28, 42, 21, 5, 182, 1, 34, 153, 0, 19, 42, 21, 4, 3, 16, 10, 184, 1, 27]
abbrev dktX3_fire_1 : List UInt8 := dkwX3_fire_1 ++ dktX3_fire_2
def dkwX3_fire_0 : List UInt8 := [42, 3, 181, 0, 134, 42, 27, 182, 1, 46, 153, 0, 44, 42, 28, 182, 1, 31, 153, 0, 36, 42, 29]
abbrev dktX3_fire_0 : List UInt8 := dkwX3_fire_0 ++ dktX3_fire_1
theorem dksX3_fire_0 : cX3_fire.data.toList.drop 0 = dktX3_fire_0 := by decide +kernel
theorem dksX3_fire_1 : cX3_fire.data.toList.drop 23 = dktX3_fire_1 := dk_seg dksX3_fire_0 23 rfl rfl
theorem dksX3_fire_2 : cX3_fire.data.toList.drop 47 = dktX3_fire_2 := dk_seg dksX3_fire_1 24 rfl rfl
theorem dksX3_fire_3 : cX3_fire.data.toList.drop 71 = dktX3_fire_3 := dk_seg dksX3_fire_2 24 rfl rfl
theorem dksX3_fire_4 : cX3_fire.data.toList.drop 93 = dktX3_fire_4 := dk_seg dksX3_fire_3 22 rfl rfl
theorem dksX3_fire_5 : cX3_fire.data.toList.drop 117 = dktX3_fire_5 := dk_seg dksX3_fire_4 24 rfl rfl
theorem dksX3_fire_6 : cX3_fire.data.toList.drop 140 = dktX3_fire_6 := dk_seg dksX3_fire_5 23 rfl rfl
theorem dksX3_fire_7 : cX3_fire.data.toList.drop 163 = dktX3_fire_7 := dk_seg dksX3_fire_6 23 rfl rfl
theorem dksX3_fire_8 : cX3_fire.data.toList.drop 186 = dktX3_fire_8 := dk_seg dksX3_fire_7 23 rfl rfl
theorem dX3_fire_0 : decode cX3_fire 0 = .ok (.aload_n 0, 1) := dk_42 (dk_at dksX3_fire_0 0 rfl rfl)
theorem dX3_fire_1 : decode cX3_fire 1 = .ok (.iconst 0, 1) := dk_3 (dk_at dksX3_fire_0 1 rfl rfl)
theorem dX3_fire_2 : decode cX3_fire 2 = .ok (.putfield 134, 3) := dk_181 0 134 (dk_at dksX3_fire_0 2 rfl rfl)
theorem dX3_fire_5 : decode cX3_fire 5 = .ok (.aload_n 0, 1) := dk_42 (dk_at dksX3_fire_0 5 rfl rfl)
theorem dX3_fire_6 : decode cX3_fire 6 = .ok (.iload_n 1, 1) := dk_27 (dk_at dksX3_fire_0 6 rfl rfl)
theorem dX3_fire_7 : decode cX3_fire 7 = .ok (.invokevirtual 302, 3) := dk_182 1 46 (dk_at dksX3_fire_0 7 rfl rfl)
theorem dX3_fire_10 : decode cX3_fire 10 = .ok (.ifCond .eq 44, 3) := dk_153 0 44 (dk_at dksX3_fire_0 10 rfl rfl)
theorem dX3_fire_13 : decode cX3_fire 13 = .ok (.aload_n 0, 1) := dk_42 (dk_at dksX3_fire_0 13 rfl rfl)
theorem dX3_fire_14 : decode cX3_fire 14 = .ok (.iload_n 2, 1) := dk_28 (dk_at dksX3_fire_0 14 rfl rfl)
theorem dX3_fire_15 : decode cX3_fire 15 = .ok (.invokevirtual 287, 3) := dk_182 1 31 (dk_at dksX3_fire_0 15 rfl rfl)
theorem dX3_fire_18 : decode cX3_fire 18 = .ok (.ifCond .eq 36, 3) := dk_153 0 36 (dk_at dksX3_fire_0 18 rfl rfl)
theorem dX3_fire_21 : decode cX3_fire 21 = .ok (.aload_n 0, 1) := dk_42 (dk_at dksX3_fire_0 21 rfl rfl)
theorem dX3_fire_22 : decode cX3_fire 22 = .ok (.iload_n 3, 1) := dk_29 (dk_at dksX3_fire_0 22 rfl rfl)
theorem dX3_fire_23 : decode cX3_fire 23 = .ok (.invokevirtual 305, 3) := dk_182 1 49 (dk_at dksX3_fire_1 0 rfl rfl)
theorem dX3_fire_26 : decode cX3_fire 26 = .ok (.ifCond .eq 28, 3) := dk_153 0 28 (dk_at dksX3_fire_1 3 rfl rfl)
theorem dX3_fire_29 : decode cX3_fire 29 = .ok (.aload_n 0, 1) := dk_42 (dk_at dksX3_fire_1 6 rfl rfl)
theorem dX3_fire_30 : decode cX3_fire 30 = .ok (.iload 5, 2) := dk_21 5 (dk_at dksX3_fire_1 7 rfl rfl)
theorem dX3_fire_32 : decode cX3_fire 32 = .ok (.invokevirtual 290, 3) := dk_182 1 34 (dk_at dksX3_fire_1 9 rfl rfl)
theorem dX3_fire_35 : decode cX3_fire 35 = .ok (.ifCond .eq 19, 3) := dk_153 0 19 (dk_at dksX3_fire_1 12 rfl rfl)
theorem dX3_fire_38 : decode cX3_fire 38 = .ok (.aload_n 0, 1) := dk_42 (dk_at dksX3_fire_1 15 rfl rfl)
theorem dX3_fire_39 : decode cX3_fire 39 = .ok (.iload 4, 2) := dk_21 4 (dk_at dksX3_fire_1 16 rfl rfl)
theorem dX3_fire_41 : decode cX3_fire 41 = .ok (.iconst 0, 1) := dk_3 (dk_at dksX3_fire_1 18 rfl rfl)
theorem dX3_fire_42 : decode cX3_fire 42 = .ok (.bipush 10, 2) := dk_16 10 (dk_at dksX3_fire_1 19 rfl rfl)
theorem dX3_fire_44 : decode cX3_fire 44 = .ok (.invokestatic 283, 3) := dk_184 1 27 (dk_at dksX3_fire_1 21 rfl rfl)
theorem dX3_fire_47 : decode cX3_fire 47 = .ok (.iconst 2, 1) := dk_5 (dk_at dksX3_fire_2 0 rfl rfl)
theorem dX3_fire_48 : decode cX3_fire 48 = .ok (.invokevirtual 241, 3) := dk_182 0 241 (dk_at dksX3_fire_2 1 rfl rfl)
theorem dX3_fire_51 : decode cX3_fire 51 = .ok (.ifCond .ne 5, 3) := dk_154 0 5 (dk_at dksX3_fire_2 4 rfl rfl)
theorem dX3_fire_54 : decode cX3_fire 54 = .ok (.lconst 0, 1) := dk_9 (dk_at dksX3_fire_2 7 rfl rfl)
theorem dX3_fire_55 : decode cX3_fire 55 = .ok (.lreturn, 1) := dk_173 (dk_at dksX3_fire_2 8 rfl rfl)
theorem dX3_fire_56 : decode cX3_fire 56 = .ok (.aload_n 0, 1) := dk_42 (dk_at dksX3_fire_2 9 rfl rfl)
theorem dX3_fire_57 : decode cX3_fire 57 = .ok (.getfield 65, 3) := dk_180 0 65 (dk_at dksX3_fire_2 10 rfl rfl)
theorem dX3_fire_60 : decode cX3_fire 60 = .ok (.bipush 24, 2) := dk_16 24 (dk_at dksX3_fire_2 13 rfl rfl)
theorem dX3_fire_62 : decode cX3_fire 62 = .ok (.iload_n 1, 1) := dk_27 (dk_at dksX3_fire_2 15 rfl rfl)
theorem dX3_fire_63 : decode cX3_fire 63 = .ok (.imul, 1) := dk_104 (dk_at dksX3_fire_2 16 rfl rfl)
theorem dX3_fire_64 : decode cX3_fire 64 = .ok (.iload_n 3, 1) := dk_29 (dk_at dksX3_fire_2 17 rfl rfl)
theorem dX3_fire_65 : decode cX3_fire 65 = .ok (.iadd, 1) := dk_96 (dk_at dksX3_fire_2 18 rfl rfl)
theorem dX3_fire_66 : decode cX3_fire 66 = .ok (.iaload, 1) := dk_46 (dk_at dksX3_fire_2 19 rfl rfl)
theorem dX3_fire_67 : decode cX3_fire 67 = .ok (.iconst 1, 1) := dk_4 (dk_at dksX3_fire_2 20 rfl rfl)
theorem dX3_fire_68 : decode cX3_fire 68 = .ok (.if_icmp .eq 5, 3) := dk_159 0 5 (dk_at dksX3_fire_2 21 rfl rfl)
theorem dX3_fire_71 : decode cX3_fire 71 = .ok (.lconst 1, 1) := dk_10 (dk_at dksX3_fire_3 0 rfl rfl)
theorem dX3_fire_72 : decode cX3_fire 72 = .ok (.lreturn, 1) := dk_173 (dk_at dksX3_fire_3 1 rfl rfl)
theorem dX3_fire_73 : decode cX3_fire 73 = .ok (.aload_n 0, 1) := dk_42 (dk_at dksX3_fire_3 2 rfl rfl)
theorem dX3_fire_74 : decode cX3_fire 74 = .ok (.getfield 16, 3) := dk_180 0 16 (dk_at dksX3_fire_3 3 rfl rfl)
theorem dX3_fire_77 : decode cX3_fire 77 = .ok (.iload_n 1, 1) := dk_27 (dk_at dksX3_fire_3 6 rfl rfl)
theorem dX3_fire_78 : decode cX3_fire 78 = .ok (.iaload, 1) := dk_46 (dk_at dksX3_fire_3 7 rfl rfl)
theorem dX3_fire_79 : decode cX3_fire 79 = .ok (.iload_n 2, 1) := dk_28 (dk_at dksX3_fire_3 8 rfl rfl)
theorem dX3_fire_80 : decode cX3_fire 80 = .ok (.invokestatic 419, 3) := dk_184 1 163 (dk_at dksX3_fire_3 9 rfl rfl)
theorem dX3_fire_83 : decode cX3_fire 83 = .ok (.istore 6, 2) := dk_54 6 (dk_at dksX3_fire_3 12 rfl rfl)
theorem dX3_fire_85 : decode cX3_fire 85 = .ok (.iload 6, 2) := dk_21 6 (dk_at dksX3_fire_3 14 rfl rfl)
theorem dX3_fire_87 : decode cX3_fire 87 = .ok (.iconst 2, 1) := dk_5 (dk_at dksX3_fire_3 16 rfl rfl)
theorem dX3_fire_88 : decode cX3_fire 88 = .ok (.if_icmp .ge 8, 3) := dk_162 0 8 (dk_at dksX3_fire_3 17 rfl rfl)
theorem dX3_fire_91 : decode cX3_fire 91 = .ok (.iload 6, 2) := dk_21 6 (dk_at dksX3_fire_3 20 rfl rfl)
theorem dX3_fire_93 : decode cX3_fire 93 = .ok (.goto 4, 3) := dk_167 0 4 (dk_at dksX3_fire_4 0 rfl rfl)
theorem dX3_fire_96 : decode cX3_fire 96 = .ok (.iconst 2, 1) := dk_5 (dk_at dksX3_fire_4 3 rfl rfl)
theorem dX3_fire_97 : decode cX3_fire 97 = .ok (.istore 7, 2) := dk_54 7 (dk_at dksX3_fire_4 4 rfl rfl)
theorem dX3_fire_99 : decode cX3_fire 99 = .ok (.iconst 1, 1) := dk_4 (dk_at dksX3_fire_4 6 rfl rfl)
theorem dX3_fire_100 : decode cX3_fire 100 = .ok (.istore 8, 2) := dk_54 8 (dk_at dksX3_fire_4 7 rfl rfl)
theorem dX3_fire_102 : decode cX3_fire 102 = .ok (.iconst 1, 1) := dk_4 (dk_at dksX3_fire_4 9 rfl rfl)
theorem dX3_fire_103 : decode cX3_fire 103 = .ok (.istore 9, 2) := dk_54 9 (dk_at dksX3_fire_4 10 rfl rfl)
theorem dX3_fire_105 : decode cX3_fire 105 = .ok (.iconst 0, 1) := dk_3 (dk_at dksX3_fire_4 12 rfl rfl)
theorem dX3_fire_106 : decode cX3_fire 106 = .ok (.istore 10, 2) := dk_54 10 (dk_at dksX3_fire_4 13 rfl rfl)
theorem dX3_fire_108 : decode cX3_fire 108 = .ok (.iload 10, 2) := dk_21 10 (dk_at dksX3_fire_4 15 rfl rfl)
theorem dX3_fire_110 : decode cX3_fire 110 = .ok (.iload 7, 2) := dk_21 7 (dk_at dksX3_fire_4 17 rfl rfl)
theorem dX3_fire_112 : decode cX3_fire 112 = .ok (.if_icmp .ge 26, 3) := dk_162 0 26 (dk_at dksX3_fire_4 19 rfl rfl)
theorem dX3_fire_115 : decode cX3_fire 115 = .ok (.iload 8, 2) := dk_21 8 (dk_at dksX3_fire_4 22 rfl rfl)
theorem dX3_fire_117 : decode cX3_fire 117 = .ok (.bipush 10, 2) := dk_16 10 (dk_at dksX3_fire_5 0 rfl rfl)
theorem dX3_fire_119 : decode cX3_fire 119 = .ok (.iload 4, 2) := dk_21 4 (dk_at dksX3_fire_5 2 rfl rfl)
theorem dX3_fire_121 : decode cX3_fire 121 = .ok (.isub, 1) := dk_100 (dk_at dksX3_fire_5 4 rfl rfl)
theorem dX3_fire_122 : decode cX3_fire 122 = .ok (.imul, 1) := dk_104 (dk_at dksX3_fire_5 5 rfl rfl)
theorem dX3_fire_123 : decode cX3_fire 123 = .ok (.istore 8, 2) := dk_54 8 (dk_at dksX3_fire_5 6 rfl rfl)
theorem dX3_fire_125 : decode cX3_fire 125 = .ok (.iload 9, 2) := dk_21 9 (dk_at dksX3_fire_5 8 rfl rfl)
theorem dX3_fire_127 : decode cX3_fire 127 = .ok (.bipush 10, 2) := dk_16 10 (dk_at dksX3_fire_5 10 rfl rfl)
theorem dX3_fire_129 : decode cX3_fire 129 = .ok (.imul, 1) := dk_104 (dk_at dksX3_fire_5 12 rfl rfl)
theorem dX3_fire_130 : decode cX3_fire 130 = .ok (.istore 9, 2) := dk_54 9 (dk_at dksX3_fire_5 13 rfl rfl)
theorem dX3_fire_132 : decode cX3_fire 132 = .ok (.iinc 10 1, 3) := dk_132 10 1 (dk_at dksX3_fire_5 15 rfl rfl)
theorem dX3_fire_135 : decode cX3_fire 135 = .ok (.goto (-27), 3) := dk_167 255 229 (dk_at dksX3_fire_5 18 rfl rfl)
theorem dX3_fire_138 : decode cX3_fire 138 = .ok (.iload 9, 2) := dk_21 9 (dk_at dksX3_fire_5 21 rfl rfl)
theorem dX3_fire_140 : decode cX3_fire 140 = .ok (.istore 10, 2) := dk_54 10 (dk_at dksX3_fire_6 0 rfl rfl)
theorem dX3_fire_142 : decode cX3_fire 142 = .ok (.iload 9, 2) := dk_21 9 (dk_at dksX3_fire_6 2 rfl rfl)
theorem dX3_fire_144 : decode cX3_fire 144 = .ok (.iload 8, 2) := dk_21 8 (dk_at dksX3_fire_6 4 rfl rfl)
theorem dX3_fire_146 : decode cX3_fire 146 = .ok (.isub, 1) := dk_100 (dk_at dksX3_fire_6 6 rfl rfl)
theorem dX3_fire_147 : decode cX3_fire 147 = .ok (.istore 11, 2) := dk_54 11 (dk_at dksX3_fire_6 7 rfl rfl)
theorem dX3_fire_149 : decode cX3_fire 149 = .ok (.iload 11, 2) := dk_21 11 (dk_at dksX3_fire_6 9 rfl rfl)
theorem dX3_fire_151 : decode cX3_fire 151 = .ok (.ifCond .eq 21, 3) := dk_153 0 21 (dk_at dksX3_fire_6 11 rfl rfl)
theorem dX3_fire_154 : decode cX3_fire 154 = .ok (.iload 10, 2) := dk_21 10 (dk_at dksX3_fire_6 14 rfl rfl)
theorem dX3_fire_156 : decode cX3_fire 156 = .ok (.iload 11, 2) := dk_21 11 (dk_at dksX3_fire_6 16 rfl rfl)
theorem dX3_fire_158 : decode cX3_fire 158 = .ok (.irem, 1) := dk_112 (dk_at dksX3_fire_6 18 rfl rfl)
theorem dX3_fire_159 : decode cX3_fire 159 = .ok (.istore 12, 2) := dk_54 12 (dk_at dksX3_fire_6 19 rfl rfl)
theorem dX3_fire_161 : decode cX3_fire 161 = .ok (.iload 11, 2) := dk_21 11 (dk_at dksX3_fire_6 21 rfl rfl)
theorem dX3_fire_163 : decode cX3_fire 163 = .ok (.istore 10, 2) := dk_54 10 (dk_at dksX3_fire_7 0 rfl rfl)
theorem dX3_fire_165 : decode cX3_fire 165 = .ok (.iload 12, 2) := dk_21 12 (dk_at dksX3_fire_7 2 rfl rfl)
theorem dX3_fire_167 : decode cX3_fire 167 = .ok (.istore 11, 2) := dk_54 11 (dk_at dksX3_fire_7 4 rfl rfl)
theorem dX3_fire_169 : decode cX3_fire 169 = .ok (.goto (-20), 3) := dk_167 255 236 (dk_at dksX3_fire_7 6 rfl rfl)
theorem dX3_fire_172 : decode cX3_fire 172 = .ok (.iload 5, 2) := dk_21 5 (dk_at dksX3_fire_7 9 rfl rfl)
theorem dX3_fire_174 : decode cX3_fire 174 = .ok (.ifCond .ne 15, 3) := dk_154 0 15 (dk_at dksX3_fire_7 11 rfl rfl)
theorem dX3_fire_177 : decode cX3_fire 177 = .ok (.iload 9, 2) := dk_21 9 (dk_at dksX3_fire_7 14 rfl rfl)
theorem dX3_fire_179 : decode cX3_fire 179 = .ok (.iload 8, 2) := dk_21 8 (dk_at dksX3_fire_7 16 rfl rfl)
theorem dX3_fire_181 : decode cX3_fire 181 = .ok (.isub, 1) := dk_100 (dk_at dksX3_fire_7 18 rfl rfl)
theorem dX3_fire_182 : decode cX3_fire 182 = .ok (.iload 10, 2) := dk_21 10 (dk_at dksX3_fire_7 19 rfl rfl)
theorem dX3_fire_184 : decode cX3_fire 184 = .ok (.idiv, 1) := dk_108 (dk_at dksX3_fire_7 21 rfl rfl)
theorem dX3_fire_185 : decode cX3_fire 185 = .ok (.i2l, 1) := dk_133 (dk_at dksX3_fire_7 22 rfl rfl)
theorem dX3_fire_186 : decode cX3_fire 186 = .ok (.goto 9, 3) := dk_167 0 9 (dk_at dksX3_fire_8 0 rfl rfl)
theorem dX3_fire_189 : decode cX3_fire 189 = .ok (.iload 9, 2) := dk_21 9 (dk_at dksX3_fire_8 3 rfl rfl)
theorem dX3_fire_191 : decode cX3_fire 191 = .ok (.iload 10, 2) := dk_21 10 (dk_at dksX3_fire_8 5 rfl rfl)
theorem dX3_fire_193 : decode cX3_fire 193 = .ok (.idiv, 1) := dk_108 (dk_at dksX3_fire_8 7 rfl rfl)
theorem dX3_fire_194 : decode cX3_fire 194 = .ok (.i2l, 1) := dk_133 (dk_at dksX3_fire_8 8 rfl rfl)
theorem dX3_fire_195 : decode cX3_fire 195 = .ok (.lreturn, 1) := dk_173 (dk_at dksX3_fire_8 9 rfl rfl)
def dkwX3_off_0 : List UInt8 := [26, 27, 162, 0, 9, 27, 26, 100, 167, 0, 6, 26, 27, 100, 172]
abbrev dktX3_off_0 : List UInt8 := dkwX3_off_0 ++ []
theorem dksX3_off_0 : cX3_off.data.toList.drop 0 = dktX3_off_0 := by decide +kernel
theorem dX3_off_0 : decode cX3_off 0 = .ok (.iload_n 0, 1) := dk_26 (dk_at dksX3_off_0 0 rfl rfl)
theorem dX3_off_1 : decode cX3_off 1 = .ok (.iload_n 1, 1) := dk_27 (dk_at dksX3_off_0 1 rfl rfl)
theorem dX3_off_2 : decode cX3_off 2 = .ok (.if_icmp .ge 9, 3) := dk_162 0 9 (dk_at dksX3_off_0 2 rfl rfl)
theorem dX3_off_5 : decode cX3_off 5 = .ok (.iload_n 1, 1) := dk_27 (dk_at dksX3_off_0 5 rfl rfl)
theorem dX3_off_6 : decode cX3_off 6 = .ok (.iload_n 0, 1) := dk_26 (dk_at dksX3_off_0 6 rfl rfl)
theorem dX3_off_7 : decode cX3_off 7 = .ok (.isub, 1) := dk_100 (dk_at dksX3_off_0 7 rfl rfl)
theorem dX3_off_8 : decode cX3_off 8 = .ok (.goto 6, 3) := dk_167 0 6 (dk_at dksX3_off_0 8 rfl rfl)
theorem dX3_off_11 : decode cX3_off 11 = .ok (.iload_n 0, 1) := dk_26 (dk_at dksX3_off_0 11 rfl rfl)
theorem dX3_off_12 : decode cX3_off 12 = .ok (.iload_n 1, 1) := dk_27 (dk_at dksX3_off_0 12 rfl rfl)
theorem dX3_off_13 : decode cX3_off 13 = .ok (.isub, 1) := dk_100 (dk_at dksX3_off_0 13 rfl rfl)
theorem dX3_off_14 : decode cX3_off 14 = .ok (.ireturn, 1) := dk_172 (dk_at dksX3_off_0 14 rfl rfl)
def dkwX3_image_3 : List UInt8 := [180, 0, 128, 182, 1, 4, 42, 42, 180, 0, 68, 42, 180, 0, 131, 182, 1, 4, 177]
abbrev dktX3_image_3 : List UInt8 := dkwX3_image_3 ++ []
def dkwX3_image_2 : List UInt8 := [180, 0, 122, 182, 1, 4, 42, 42, 180, 0, 74, 42, 180, 0, 125, 182, 1, 4, 42, 42, 180, 0, 65, 42]
abbrev dktX3_image_2 : List UInt8 := dkwX3_image_2 ++ dktX3_image_3
def dkwX3_image_1 : List UInt8 := [4, 42, 180, 0, 71, 79, 42, 180, 0, 119, 5, 42, 180, 1, 11, 79, 42, 42, 180, 0, 62, 42]
abbrev dktX3_image_1 : List UInt8 := dkwX3_image_1 ++ dktX3_image_2
def dkwX3_image_0 : List UInt8 := [42, 3, 181, 0, 134, 42, 4, 181, 1, 21, 42, 180, 0, 119, 3, 42, 180, 1, 8, 79, 42, 180, 0, 119]
abbrev dktX3_image_0 : List UInt8 := dkwX3_image_0 ++ dktX3_image_1
theorem dksX3_image_0 : cX3_image.data.toList.drop 0 = dktX3_image_0 := by decide +kernel
theorem dksX3_image_1 : cX3_image.data.toList.drop 24 = dktX3_image_1 := dk_seg dksX3_image_0 24 rfl rfl
theorem dksX3_image_2 : cX3_image.data.toList.drop 46 = dktX3_image_2 := dk_seg dksX3_image_1 22 rfl rfl
theorem dksX3_image_3 : cX3_image.data.toList.drop 70 = dktX3_image_3 := dk_seg dksX3_image_2 24 rfl rfl
theorem dX3_image_0 : decode cX3_image 0 = .ok (.aload_n 0, 1) := dk_42 (dk_at dksX3_image_0 0 rfl rfl)
theorem dX3_image_1 : decode cX3_image 1 = .ok (.iconst 0, 1) := dk_3 (dk_at dksX3_image_0 1 rfl rfl)
theorem dX3_image_2 : decode cX3_image 2 = .ok (.putfield 134, 3) := dk_181 0 134 (dk_at dksX3_image_0 2 rfl rfl)
theorem dX3_image_5 : decode cX3_image 5 = .ok (.aload_n 0, 1) := dk_42 (dk_at dksX3_image_0 5 rfl rfl)
theorem dX3_image_6 : decode cX3_image 6 = .ok (.iconst 1, 1) := dk_4 (dk_at dksX3_image_0 6 rfl rfl)
theorem dX3_image_7 : decode cX3_image 7 = .ok (.putfield 277, 3) := dk_181 1 21 (dk_at dksX3_image_0 7 rfl rfl)
theorem dX3_image_10 : decode cX3_image 10 = .ok (.aload_n 0, 1) := dk_42 (dk_at dksX3_image_0 10 rfl rfl)
theorem dX3_image_11 : decode cX3_image 11 = .ok (.getfield 119, 3) := dk_180 0 119 (dk_at dksX3_image_0 11 rfl rfl)
theorem dX3_image_14 : decode cX3_image 14 = .ok (.iconst 0, 1) := dk_3 (dk_at dksX3_image_0 14 rfl rfl)
theorem dX3_image_15 : decode cX3_image 15 = .ok (.aload_n 0, 1) := dk_42 (dk_at dksX3_image_0 15 rfl rfl)
theorem dX3_image_16 : decode cX3_image 16 = .ok (.getfield 264, 3) := dk_180 1 8 (dk_at dksX3_image_0 16 rfl rfl)
theorem dX3_image_19 : decode cX3_image 19 = .ok (.iastore, 1) := dk_79 (dk_at dksX3_image_0 19 rfl rfl)
theorem dX3_image_20 : decode cX3_image 20 = .ok (.aload_n 0, 1) := dk_42 (dk_at dksX3_image_0 20 rfl rfl)
theorem dX3_image_21 : decode cX3_image 21 = .ok (.getfield 119, 3) := dk_180 0 119 (dk_at dksX3_image_0 21 rfl rfl)
theorem dX3_image_24 : decode cX3_image 24 = .ok (.iconst 1, 1) := dk_4 (dk_at dksX3_image_1 0 rfl rfl)
theorem dX3_image_25 : decode cX3_image 25 = .ok (.aload_n 0, 1) := dk_42 (dk_at dksX3_image_1 1 rfl rfl)
theorem dX3_image_26 : decode cX3_image 26 = .ok (.getfield 71, 3) := dk_180 0 71 (dk_at dksX3_image_1 2 rfl rfl)
theorem dX3_image_29 : decode cX3_image 29 = .ok (.iastore, 1) := dk_79 (dk_at dksX3_image_1 5 rfl rfl)
theorem dX3_image_30 : decode cX3_image 30 = .ok (.aload_n 0, 1) := dk_42 (dk_at dksX3_image_1 6 rfl rfl)
theorem dX3_image_31 : decode cX3_image 31 = .ok (.getfield 119, 3) := dk_180 0 119 (dk_at dksX3_image_1 7 rfl rfl)
theorem dX3_image_34 : decode cX3_image 34 = .ok (.iconst 2, 1) := dk_5 (dk_at dksX3_image_1 10 rfl rfl)
theorem dX3_image_35 : decode cX3_image 35 = .ok (.aload_n 0, 1) := dk_42 (dk_at dksX3_image_1 11 rfl rfl)
theorem dX3_image_36 : decode cX3_image 36 = .ok (.getfield 267, 3) := dk_180 1 11 (dk_at dksX3_image_1 12 rfl rfl)
theorem dX3_image_39 : decode cX3_image 39 = .ok (.iastore, 1) := dk_79 (dk_at dksX3_image_1 15 rfl rfl)
theorem dX3_image_40 : decode cX3_image 40 = .ok (.aload_n 0, 1) := dk_42 (dk_at dksX3_image_1 16 rfl rfl)
theorem dX3_image_41 : decode cX3_image 41 = .ok (.aload_n 0, 1) := dk_42 (dk_at dksX3_image_1 17 rfl rfl)
theorem dX3_image_42 : decode cX3_image 42 = .ok (.getfield 62, 3) := dk_180 0 62 (dk_at dksX3_image_1 18 rfl rfl)
theorem dX3_image_45 : decode cX3_image 45 = .ok (.aload_n 0, 1) := dk_42 (dk_at dksX3_image_1 21 rfl rfl)
theorem dX3_image_46 : decode cX3_image 46 = .ok (.getfield 122, 3) := dk_180 0 122 (dk_at dksX3_image_2 0 rfl rfl)
theorem dX3_image_49 : decode cX3_image 49 = .ok (.invokevirtual 260, 3) := dk_182 1 4 (dk_at dksX3_image_2 3 rfl rfl)
theorem dX3_image_52 : decode cX3_image 52 = .ok (.aload_n 0, 1) := dk_42 (dk_at dksX3_image_2 6 rfl rfl)
theorem dX3_image_53 : decode cX3_image 53 = .ok (.aload_n 0, 1) := dk_42 (dk_at dksX3_image_2 7 rfl rfl)
theorem dX3_image_54 : decode cX3_image 54 = .ok (.getfield 74, 3) := dk_180 0 74 (dk_at dksX3_image_2 8 rfl rfl)
theorem dX3_image_57 : decode cX3_image 57 = .ok (.aload_n 0, 1) := dk_42 (dk_at dksX3_image_2 11 rfl rfl)
theorem dX3_image_58 : decode cX3_image 58 = .ok (.getfield 125, 3) := dk_180 0 125 (dk_at dksX3_image_2 12 rfl rfl)
theorem dX3_image_61 : decode cX3_image 61 = .ok (.invokevirtual 260, 3) := dk_182 1 4 (dk_at dksX3_image_2 15 rfl rfl)
theorem dX3_image_64 : decode cX3_image 64 = .ok (.aload_n 0, 1) := dk_42 (dk_at dksX3_image_2 18 rfl rfl)
theorem dX3_image_65 : decode cX3_image 65 = .ok (.aload_n 0, 1) := dk_42 (dk_at dksX3_image_2 19 rfl rfl)
theorem dX3_image_66 : decode cX3_image 66 = .ok (.getfield 65, 3) := dk_180 0 65 (dk_at dksX3_image_2 20 rfl rfl)
theorem dX3_image_69 : decode cX3_image 69 = .ok (.aload_n 0, 1) := dk_42 (dk_at dksX3_image_2 23 rfl rfl)
theorem dX3_image_70 : decode cX3_image 70 = .ok (.getfield 128, 3) := dk_180 0 128 (dk_at dksX3_image_3 0 rfl rfl)
theorem dX3_image_73 : decode cX3_image 73 = .ok (.invokevirtual 260, 3) := dk_182 1 4 (dk_at dksX3_image_3 3 rfl rfl)
theorem dX3_image_76 : decode cX3_image 76 = .ok (.aload_n 0, 1) := dk_42 (dk_at dksX3_image_3 6 rfl rfl)
theorem dX3_image_77 : decode cX3_image 77 = .ok (.aload_n 0, 1) := dk_42 (dk_at dksX3_image_3 7 rfl rfl)
theorem dX3_image_78 : decode cX3_image 78 = .ok (.getfield 68, 3) := dk_180 0 68 (dk_at dksX3_image_3 8 rfl rfl)
theorem dX3_image_81 : decode cX3_image 81 = .ok (.aload_n 0, 1) := dk_42 (dk_at dksX3_image_3 11 rfl rfl)
theorem dX3_image_82 : decode cX3_image 82 = .ok (.getfield 131, 3) := dk_180 0 131 (dk_at dksX3_image_3 12 rfl rfl)
theorem dX3_image_85 : decode cX3_image 85 = .ok (.invokevirtual 260, 3) := dk_182 1 4 (dk_at dksX3_image_3 15 rfl rfl)
theorem dX3_image_88 : decode cX3_image 88 = .ok (.return_, 1) := dk_177 (dk_at dksX3_image_3 18 rfl rfl)
def dkwX3_restore_3 : List UInt8 := [180, 0, 128, 42, 180, 0, 65, 182, 1, 4, 42, 42, 180, 0, 131, 42, 180, 0, 68, 182, 1, 4, 4, 172]
abbrev dktX3_restore_3 : List UInt8 := dkwX3_restore_3 ++ []
def dkwX3_restore_2 : List UInt8 := [180, 0, 122, 42, 180, 0, 62, 182, 1, 4, 42, 42, 180, 0, 125, 42, 180, 0, 74, 182, 1, 4, 42, 42]
abbrev dktX3_restore_2 : List UInt8 := dkwX3_restore_2 ++ dktX3_restore_3
def dkwX3_restore_1 : List UInt8 := [42, 42, 180, 0, 119, 4, 46, 181, 0, 71, 42, 42, 180, 0, 119, 5, 46, 181, 1, 11, 42, 42]
abbrev dktX3_restore_1 : List UInt8 := dkwX3_restore_1 ++ dktX3_restore_2
def dkwX3_restore_0 : List UInt8 := [42, 3, 181, 0, 134, 42, 180, 1, 21, 154, 0, 5, 3, 172, 42, 42, 180, 0, 119, 3, 46, 181, 1, 8]
abbrev dktX3_restore_0 : List UInt8 := dkwX3_restore_0 ++ dktX3_restore_1
theorem dksX3_restore_0 : cX3_restore.data.toList.drop 0 = dktX3_restore_0 := by decide +kernel
theorem dksX3_restore_1 : cX3_restore.data.toList.drop 24 = dktX3_restore_1 := dk_seg dksX3_restore_0 24 rfl rfl
theorem dksX3_restore_2 : cX3_restore.data.toList.drop 46 = dktX3_restore_2 := dk_seg dksX3_restore_1 22 rfl rfl
theorem dksX3_restore_3 : cX3_restore.data.toList.drop 70 = dktX3_restore_3 := dk_seg dksX3_restore_2 24 rfl rfl
theorem dX3_restore_0 : decode cX3_restore 0 = .ok (.aload_n 0, 1) := dk_42 (dk_at dksX3_restore_0 0 rfl rfl)
theorem dX3_restore_1 : decode cX3_restore 1 = .ok (.iconst 0, 1) := dk_3 (dk_at dksX3_restore_0 1 rfl rfl)
theorem dX3_restore_2 : decode cX3_restore 2 = .ok (.putfield 134, 3) := dk_181 0 134 (dk_at dksX3_restore_0 2 rfl rfl)
theorem dX3_restore_5 : decode cX3_restore 5 = .ok (.aload_n 0, 1) := dk_42 (dk_at dksX3_restore_0 5 rfl rfl)
theorem dX3_restore_6 : decode cX3_restore 6 = .ok (.getfield 277, 3) := dk_180 1 21 (dk_at dksX3_restore_0 6 rfl rfl)
theorem dX3_restore_9 : decode cX3_restore 9 = .ok (.ifCond .ne 5, 3) := dk_154 0 5 (dk_at dksX3_restore_0 9 rfl rfl)
theorem dX3_restore_12 : decode cX3_restore 12 = .ok (.iconst 0, 1) := dk_3 (dk_at dksX3_restore_0 12 rfl rfl)
theorem dX3_restore_13 : decode cX3_restore 13 = .ok (.ireturn, 1) := dk_172 (dk_at dksX3_restore_0 13 rfl rfl)
theorem dX3_restore_14 : decode cX3_restore 14 = .ok (.aload_n 0, 1) := dk_42 (dk_at dksX3_restore_0 14 rfl rfl)
theorem dX3_restore_15 : decode cX3_restore 15 = .ok (.aload_n 0, 1) := dk_42 (dk_at dksX3_restore_0 15 rfl rfl)
theorem dX3_restore_16 : decode cX3_restore 16 = .ok (.getfield 119, 3) := dk_180 0 119 (dk_at dksX3_restore_0 16 rfl rfl)
theorem dX3_restore_19 : decode cX3_restore 19 = .ok (.iconst 0, 1) := dk_3 (dk_at dksX3_restore_0 19 rfl rfl)
theorem dX3_restore_20 : decode cX3_restore 20 = .ok (.iaload, 1) := dk_46 (dk_at dksX3_restore_0 20 rfl rfl)
theorem dX3_restore_21 : decode cX3_restore 21 = .ok (.putfield 264, 3) := dk_181 1 8 (dk_at dksX3_restore_0 21 rfl rfl)
theorem dX3_restore_24 : decode cX3_restore 24 = .ok (.aload_n 0, 1) := dk_42 (dk_at dksX3_restore_1 0 rfl rfl)
theorem dX3_restore_25 : decode cX3_restore 25 = .ok (.aload_n 0, 1) := dk_42 (dk_at dksX3_restore_1 1 rfl rfl)
theorem dX3_restore_26 : decode cX3_restore 26 = .ok (.getfield 119, 3) := dk_180 0 119 (dk_at dksX3_restore_1 2 rfl rfl)
theorem dX3_restore_29 : decode cX3_restore 29 = .ok (.iconst 1, 1) := dk_4 (dk_at dksX3_restore_1 5 rfl rfl)
theorem dX3_restore_30 : decode cX3_restore 30 = .ok (.iaload, 1) := dk_46 (dk_at dksX3_restore_1 6 rfl rfl)
theorem dX3_restore_31 : decode cX3_restore 31 = .ok (.putfield 71, 3) := dk_181 0 71 (dk_at dksX3_restore_1 7 rfl rfl)
theorem dX3_restore_34 : decode cX3_restore 34 = .ok (.aload_n 0, 1) := dk_42 (dk_at dksX3_restore_1 10 rfl rfl)
theorem dX3_restore_35 : decode cX3_restore 35 = .ok (.aload_n 0, 1) := dk_42 (dk_at dksX3_restore_1 11 rfl rfl)
theorem dX3_restore_36 : decode cX3_restore 36 = .ok (.getfield 119, 3) := dk_180 0 119 (dk_at dksX3_restore_1 12 rfl rfl)
theorem dX3_restore_39 : decode cX3_restore 39 = .ok (.iconst 2, 1) := dk_5 (dk_at dksX3_restore_1 15 rfl rfl)
theorem dX3_restore_40 : decode cX3_restore 40 = .ok (.iaload, 1) := dk_46 (dk_at dksX3_restore_1 16 rfl rfl)
theorem dX3_restore_41 : decode cX3_restore 41 = .ok (.putfield 267, 3) := dk_181 1 11 (dk_at dksX3_restore_1 17 rfl rfl)
theorem dX3_restore_44 : decode cX3_restore 44 = .ok (.aload_n 0, 1) := dk_42 (dk_at dksX3_restore_1 20 rfl rfl)
theorem dX3_restore_45 : decode cX3_restore 45 = .ok (.aload_n 0, 1) := dk_42 (dk_at dksX3_restore_1 21 rfl rfl)
theorem dX3_restore_46 : decode cX3_restore 46 = .ok (.getfield 122, 3) := dk_180 0 122 (dk_at dksX3_restore_2 0 rfl rfl)
theorem dX3_restore_49 : decode cX3_restore 49 = .ok (.aload_n 0, 1) := dk_42 (dk_at dksX3_restore_2 3 rfl rfl)
theorem dX3_restore_50 : decode cX3_restore 50 = .ok (.getfield 62, 3) := dk_180 0 62 (dk_at dksX3_restore_2 4 rfl rfl)
theorem dX3_restore_53 : decode cX3_restore 53 = .ok (.invokevirtual 260, 3) := dk_182 1 4 (dk_at dksX3_restore_2 7 rfl rfl)
theorem dX3_restore_56 : decode cX3_restore 56 = .ok (.aload_n 0, 1) := dk_42 (dk_at dksX3_restore_2 10 rfl rfl)
theorem dX3_restore_57 : decode cX3_restore 57 = .ok (.aload_n 0, 1) := dk_42 (dk_at dksX3_restore_2 11 rfl rfl)
theorem dX3_restore_58 : decode cX3_restore 58 = .ok (.getfield 125, 3) := dk_180 0 125 (dk_at dksX3_restore_2 12 rfl rfl)
theorem dX3_restore_61 : decode cX3_restore 61 = .ok (.aload_n 0, 1) := dk_42 (dk_at dksX3_restore_2 15 rfl rfl)
theorem dX3_restore_62 : decode cX3_restore 62 = .ok (.getfield 74, 3) := dk_180 0 74 (dk_at dksX3_restore_2 16 rfl rfl)
theorem dX3_restore_65 : decode cX3_restore 65 = .ok (.invokevirtual 260, 3) := dk_182 1 4 (dk_at dksX3_restore_2 19 rfl rfl)
theorem dX3_restore_68 : decode cX3_restore 68 = .ok (.aload_n 0, 1) := dk_42 (dk_at dksX3_restore_2 22 rfl rfl)
theorem dX3_restore_69 : decode cX3_restore 69 = .ok (.aload_n 0, 1) := dk_42 (dk_at dksX3_restore_2 23 rfl rfl)
theorem dX3_restore_70 : decode cX3_restore 70 = .ok (.getfield 128, 3) := dk_180 0 128 (dk_at dksX3_restore_3 0 rfl rfl)
theorem dX3_restore_73 : decode cX3_restore 73 = .ok (.aload_n 0, 1) := dk_42 (dk_at dksX3_restore_3 3 rfl rfl)
theorem dX3_restore_74 : decode cX3_restore 74 = .ok (.getfield 65, 3) := dk_180 0 65 (dk_at dksX3_restore_3 4 rfl rfl)
theorem dX3_restore_77 : decode cX3_restore 77 = .ok (.invokevirtual 260, 3) := dk_182 1 4 (dk_at dksX3_restore_3 7 rfl rfl)
theorem dX3_restore_80 : decode cX3_restore 80 = .ok (.aload_n 0, 1) := dk_42 (dk_at dksX3_restore_3 10 rfl rfl)
theorem dX3_restore_81 : decode cX3_restore 81 = .ok (.aload_n 0, 1) := dk_42 (dk_at dksX3_restore_3 11 rfl rfl)
theorem dX3_restore_82 : decode cX3_restore 82 = .ok (.getfield 131, 3) := dk_180 0 131 (dk_at dksX3_restore_3 12 rfl rfl)
theorem dX3_restore_85 : decode cX3_restore 85 = .ok (.aload_n 0, 1) := dk_42 (dk_at dksX3_restore_3 15 rfl rfl)
theorem dX3_restore_86 : decode cX3_restore 86 = .ok (.getfield 68, 3) := dk_180 0 68 (dk_at dksX3_restore_3 16 rfl rfl)
theorem dX3_restore_89 : decode cX3_restore 89 = .ok (.invokevirtual 260, 3) := dk_182 1 4 (dk_at dksX3_restore_3 19 rfl rfl)
theorem dX3_restore_92 : decode cX3_restore 92 = .ok (.iconst 1, 1) := dk_4 (dk_at dksX3_restore_3 22 rfl rfl)
theorem dX3_restore_93 : decode cX3_restore 93 = .ok (.ireturn, 1) := dk_172 (dk_at dksX3_restore_3 23 rfl rfl)
