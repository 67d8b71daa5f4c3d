set_option maxRecDepth 100000
def dkwX1_init_3 : List UInt8 := [42, 2, 181, 0, 50, 177]
abbrev dktX1_init_3 : List UInt8 := dkwX1_init_3 ++ []
def dkwX1_init_2 : List UInt8 := [89, 183, 0, 39, 181, 0, 40, 42, 17, 0, 144, 188, 10, 181, 0, 44, 42, 16, 72, 188, 10, 181, 0, 47]
abbrev dktX1_init_2 : List UInt8 := dkwX1_init_2 ++ dktX1_init_3
def dkwX1_init_1 : List UInt8 := [42, 2, 181, 0, 26, 42, 6, 188, 10, 181, 0, 30, 42, 16, 8, 188, 10, 181, 0, 34, 42, 187, 0, 37]
abbrev dktX1_init_1 : List UInt8 := dkwX1_init_1 ++ dktX1_init_2
def dkwX1_init_0 : List UInt8 := [42, 183, 0, 10, 42, 187, 0, 13, 89, 183, 0, 15, 181, 0, 16, 42, 17, 2, 188, 188, 8, 181, 0, 22]
abbrev dktX1_init_0 : List UInt8 := dkwX1_init_0 ++ dktX1_init_1
theorem dksX1_init_0 : cX1_init.data.toList.drop 0 = dktX1_init_0 := by decide +kernel
theorem dksX1_init_1 : cX1_init.data.toList.drop 24 = dktX1_init_1 := dk_seg dksX1_init_0 24 rfl rfl
theorem dksX1_init_2 : cX1_init.data.toList.drop 48 = dktX1_init_2 := dk_seg dksX1_init_1 24 rfl rfl
theorem dksX1_init_3 : cX1_init.data.toList.drop 72 = dktX1_init_3 := dk_seg dksX1_init_2 24 rfl rfl
theorem dX1_init_0 : decode cX1_init 0 = .ok (.aload_n 0, 1) := dk_42 (dk_at dksX1_init_0 0 rfl rfl)
theorem dX1_init_1 : decode cX1_init 1 = .ok (.invokespecial 10, 3) := dk_183 0 10 (dk_at dksX1_init_0 1 rfl rfl)
theorem dX1_init_4 : decode cX1_init 4 = .ok (.aload_n 0, 1) := dk_42 (dk_at dksX1_init_0 4 rfl rfl)
theorem dX1_init_5 : decode cX1_init 5 = .ok (.new 13, 3) := dk_187 0 13 (dk_at dksX1_init_0 5 rfl rfl)
theorem dX1_init_8 : decode cX1_init 8 = .ok (.dup, 1) := dk_89 (dk_at dksX1_init_0 8 rfl rfl)
theorem dX1_init_9 : decode cX1_init 9 = .ok (.invokespecial 15, 3) := dk_183 0 15 (dk_at dksX1_init_0 9 rfl rfl)
theorem dX1_init_12 : decode cX1_init 12 = .ok (.putfield 16, 3) := dk_181 0 16 (dk_at dksX1_init_0 12 rfl rfl)
theorem dX1_init_15 : decode cX1_init 15 = .ok (.aload_n 0, 1) := dk_42 (dk_at dksX1_init_0 15 rfl rfl)
theorem dX1_init_16 : decode cX1_init 16 = .ok (.sipush 700, 3) := dk_17 2 188 (dk_at dksX1_init_0 16 rfl rfl)
theorem dX1_init_19 : decode cX1_init 19 = .ok (.newarray .byte, 2) := dk_188_8 (dk_at dksX1_init_0 19 rfl rfl)
theorem dX1_init_21 : decode cX1_init 21 = .ok (.putfield 22, 3) := dk_181 0 22 (dk_at dksX1_init_0 21 rfl rfl)
theorem dX1_init_24 : decode cX1_init 24 = .ok (.aload_n 0, 1) := dk_42 (dk_at dksX1_init_1 0 rfl rfl)
theorem dX1_init_25 : decode cX1_init 25 = .ok (.iconst (-1), 1) := dk_2 (dk_at dksX1_init_1 1 rfl rfl)
theorem dX1_init_26 : decode cX1_init 26 = .ok (.putfield 26, 3) := dk_181 0 26 (dk_at dksX1_init_1 2 rfl rfl)
theorem dX1_init_29 : decode cX1_init 29 = .ok (.aload_n 0, 1) := dk_42 (dk_at dksX1_init_1 5 rfl rfl)
theorem dX1_init_30 : decode cX1_init 30 = .ok (.iconst 3, 1) := dk_6 (dk_at dksX1_init_1 6 rfl rfl)
theorem dX1_init_31 : decode cX1_init 31 = .ok (.newarray .int, 2) := dk_188_10 (dk_at dksX1_init_1 7 rfl rfl)
theorem dX1_init_33 : decode cX1_init 33 = .ok (.putfield 30, 3) := dk_181 0 30 (dk_at dksX1_init_1 9 rfl rfl)
theorem dX1_init_36 : decode cX1_init 36 = .ok (.aload_n 0, 1) := dk_42 (dk_at dksX1_init_1 12 rfl rfl)
theorem dX1_init_37 : decode cX1_init 37 = .ok (.bipush 8, 2) := dk_16 8 (dk_at dksX1_init_1 13 rfl rfl)
theorem dX1_init_39 : decode cX1_init 39 = .ok (.newarray .int, 2) := dk_188_10 (dk_at dksX1_init_1 15 rfl rfl)
theorem dX1_init_41 : decode cX1_init 41 = .ok (.putfield 34, 3) := dk_181 0 34 (dk_at dksX1_init_1 17 rfl rfl)
theorem dX1_init_44 : decode cX1_init 44 = .ok (.aload_n 0, 1) := dk_42 (dk_at dksX1_init_1 20 rfl rfl)
theorem dX1_init_45 : decode cX1_init 45 = .ok (.new 37, 3) := dk_187 0 37 (dk_at dksX1_init_1 21 rfl rfl)
theorem dX1_init_48 : decode cX1_init 48 = .ok (.dup, 1) := dk_89 (dk_at dksX1_init_2 0 rfl rfl)
theorem dX1_init_49 : decode cX1_init 49 = .ok (.invokespecial 39, 3) := dk_183 0 39 (dk_at dksX1_init_2 1 rfl rfl)
theorem dX1_init_52 : decode cX1_init 52 = .ok (.putfield 40, 3) := dk_181 0 40 (dk_at dksX1_init_2 4 rfl rfl)
theorem dX1_init_55 : decode cX1_init 55 = .ok (.aload_n 0, 1) := dk_42 (dk_at dksX1_init_2 7 rfl rfl)
theorem dX1_init_56 : decode cX1_init 56 = .ok (.sipush 144, 3) := dk_17 0 144 (dk_at dksX1_init_2 8 rfl rfl)
theorem dX1_init_59 : decode cX1_init 59 = .ok (.newarray .int, 2) := dk_188_10 (dk_at dksX1_init_2 11 rfl rfl)
theorem dX1_init_61 : decode cX1_init 61 = .ok (.putfield 44, 3) := dk_181 0 44 (dk_at dksX1_init_2 13 rfl rfl)
theorem dX1_init_64 : decode cX1_init 64 = .ok (.aload_n 0, 1) := dk_42 (dk_at dksX1_init_2 16 rfl rfl)
theorem dX1_init_65 : decode cX1_init 65 = .ok (.bipush 72, 2) := dk_16 72 (dk_at dksX1_init_2 17 rfl rfl)
theorem dX1_init_67 : decode cX1_init 67 = .ok (.newarray .int, 2) := dk_188_10 (dk_at dksX1_init_2 19 rfl rfl)
theorem dX1_init_69 : decode cX1_init 69 = .ok (.putfield 47, 3) := dk_181 0 47 (dk_at dksX1_init_2 21 rfl rfl)
theorem dX1_init_72 : decode cX1_init 72 = .ok (.aload_n 0, 1) := dk_42 (dk_at dksX1_init_3 0 rfl rfl)
theorem dX1_init_73 : decode cX1_init 73 = .ok (.iconst (-1), 1) := dk_2 (dk_at dksX1_init_3 1 rfl rfl)
theorem dX1_init_74 : decode cX1_init 74 = .ok (.putfield 50, 3) := dk_181 0 50 (dk_at dksX1_init_3 2 rfl rfl)
theorem dX1_init_77 : decode cX1_init 77 = .ok (.return_, 1) := dk_177 (dk_at dksX1_init_3 5 rfl rfl)
def dkwX1_feed_5 : List UInt8 := [180, 0, 53, 172]
abbrev dktX1_feed_5 : List UInt8 := dkwX1_feed_5 ++ []
def dkwX1_feed_4 : List UInt8 := [112, 104, 100, 122, 145, 84, 132, 6, 1, 167, 255, 172, 42, 89, 180, 0, 53, 16, 20, 96, 181, 0, 53, 42]
abbrev dktX1_feed_4 : List UInt8 := dkwX1_feed_4 ++ dktX1_feed_5
def dkwX1_feed_3 : List UInt8 := [21, 5, 54, 7, 42, 180, 0, 22, 42, 180, 0, 53, 21, 6, 96, 21, 7, 16, 24, 16, 8, 21, 6, 7]
abbrev dktX1_feed_3 : List UInt8 := dkwX1_feed_3 ++ dktX1_feed_4
def dkwX1_feed_2 : List UInt8 := [21, 6, 16, 12, 162, 0, 7, 29, 167, 0, 17, 21, 6, 16, 16, 162, 0, 8, 21, 4, 167, 0, 5]
abbrev dktX1_feed_2 : List UInt8 := dkwX1_feed_2 ++ dktX1_feed_3
def dkwX1_feed_1 : List UInt8 := [162, 0, 83, 21, 6, 7, 162, 0, 7, 27, 167, 0, 39, 21, 6, 16, 8, 162, 0, 7, 28, 167, 0, 28]
abbrev dktX1_feed_1 : List UInt8 := dkwX1_feed_1 ++ dktX1_feed_2
def dkwX1_feed_0 : List UInt8 := [42, 180, 0, 53, 16, 20, 96, 17, 2, 188, 164, 0, 5, 2, 172, 3, 54, 6, 21, 6, 16, 20]
abbrev dktX1_feed_0 : List UInt8 := dkwX1_feed_0 ++ dktX1_feed_1
theorem dksX1_feed_0 : cX1_feed.data.toList.drop 0 = dktX1_feed_0 := by decide +kernel
theorem dksX1_feed_1 : cX1_feed.data.toList.drop 22 = dktX1_feed_1 := dk_seg dksX1_feed_0 22 rfl rfl
theorem dksX1_feed_2 : cX1_feed.data.toList.drop 46 = dktX1_feed_2 := dk_seg dksX1_feed_1 24 rfl rfl
theorem dksX1_feed_3 : cX1_feed.data.toList.drop 69 = dktX1_feed_3 := dk_seg dksX1_feed_2 23 rfl rfl
theorem dksX1_feed_4 : cX1_feed.data.toList.drop 93 = dktX1_feed_4 := dk_seg dksX1_feed_3 24 rfl rfl
theorem dksX1_feed_5 : cX1_feed.data.toList.drop 117 = dktX1_feed_5 := dk_seg dksX1_feed_4 24 rfl rfl
theorem dX1_feed_0 : decode cX1_feed 0 = .ok (.aload_n 0, 1) := dk_42 (dk_at dksX1_feed_0 0 rfl rfl)
theorem dX1_feed_1 : decode cX1_feed 1 = .ok (.getfield 53, 3) := dk_180 0 53 (dk_at dksX1_feed_0 1 rfl rfl)
theorem dX1_feed_4 : decode cX1_feed 4 = .ok (.bipush 20, 2) := dk_16 20 (dk_at dksX1_feed_0 4 rfl rfl)
theorem dX1_feed_6 : decode cX1_feed 6 = .ok (.iadd, 1) := dk_96 (dk_at dksX1_feed_0 6 rfl rfl)
theorem dX1_feed_7 : decode cX1_feed 7 = .ok (.sipush 700, 3) := dk_17 2 188 (dk_at dksX1_feed_0 7 rfl rfl)
theorem dX1_feed_10 : decode cX1_feed 10 = .ok (.if_icmp .le 5, 3) := dk_164 0 5 (dk_at dksX1_feed_0 10 rfl rfl)
theorem dX1_feed_13 : decode cX1_feed 13 = .ok (.iconst (-1), 1) := dk_2 (dk_at dksX1_feed_0 13 rfl rfl)
theorem dX1_feed_14 : decode cX1_feed 14 = .ok (.ireturn, 1) := dk_172 (dk_at dksX1_feed_0 14 rfl rfl)
theorem dX1_feed_15 : decode cX1_feed 15 = .ok (.iconst 0, 1) := dk_3 (dk_at dksX1_feed_0 15 rfl rfl)
theorem dX1_feed_16 : decode cX1_feed 16 = .ok (.istore 6, 2) := dk_54 6 (dk_at dksX1_feed_0 16 rfl rfl)
theorem dX1_feed_18 : decode cX1_feed 18 = .ok (.iload 6, 2) := dk_21 6 (dk_at dksX1_feed_0 18 rfl rfl)
theorem dX1_feed_20 : decode cX1_feed 20 = .ok (.bipush 20, 2) := dk_16 20 (dk_at dksX1_feed_0 20 rfl rfl)
theorem dX1_feed_22 : decode cX1_feed 22 = .ok (.if_icmp .ge 83, 3) := dk_162 0 83 (dk_at dksX1_feed_1 0 rfl rfl)
theorem dX1_feed_25 : decode cX1_feed 25 = .ok (.iload 6, 2) := dk_21 6 (dk_at dksX1_feed_1 3 rfl rfl)
theorem dX1_feed_27 : decode cX1_feed 27 = .ok (.iconst 4, 1) := dk_7 (dk_at dksX1_feed_1 5 rfl rfl)
theorem dX1_feed_28 : decode cX1_feed 28 = .ok (.if_icmp .ge 7, 3) := dk_162 0 7 (dk_at dksX1_feed_1 6 rfl rfl)
theorem dX1_feed_31 : decode cX1_feed 31 = .ok (.iload_n 1, 1) := dk_27 (dk_at dksX1_feed_1 9 rfl rfl)
theorem dX1_feed_32 : decode cX1_feed 32 = .ok (.goto 39, 3) := dk_167 0 39 (dk_at dksX1_feed_1 10 rfl rfl)
theorem dX1_feed_35 : decode cX1_feed 35 = .ok (.iload 6, 2) := dk_21 6 (dk_at dksX1_feed_1 13 rfl rfl)
theorem dX1_feed_37 : decode cX1_feed 37 = .ok (.bipush 8, 2) := dk_16 8 (dk_at dksX1_feed_1 15 rfl rfl)
theorem dX1_feed_39 : decode cX1_feed 39 = .ok (.if_icmp .ge 7, 3) := dk_162 0 7 (dk_at dksX1_feed_1 17 rfl rfl)
theorem dX1_feed_42 : decode cX1_feed 42 = .ok (.iload_n 2, 1) := dk_28 (dk_at dksX1_feed_1 20 rfl rfl)
theorem dX1_feed_43 : decode cX1_feed 43 = .ok (.goto 28, 3) := dk_167 0 28 (dk_at dksX1_feed_1 21 rfl rfl)
theorem dX1_feed_46 : decode cX1_feed 46 = .ok (.iload 6, 2) := dk_21 6 (dk_at dksX1_feed_2 0 rfl rfl)
theorem dX1_feed_48 : decode cX1_feed 48 = .ok (.bipush 12, 2) := dk_16 12 (dk_at dksX1_feed_2 2 rfl rfl)
theorem dX1_feed_50 : decode cX1_feed 50 = .ok (.if_icmp .ge 7, 3) := dk_162 0 7 (dk_at dksX1_feed_2 4 rfl rfl)
theorem dX1_feed_53 : decode cX1_feed 53 = .ok (.iload_n 3, 1) := dk_29 (dk_at dksX1_feed_2 7 rfl rfl)
theorem dX1_feed_54 : decode cX1_feed 54 = .ok (.goto 17, 3) := dk_167 0 17 (dk_at dksX1_feed_2 8 rfl rfl)
theorem dX1_feed_57 : decode cX1_feed 57 = .ok (.iload 6, 2) := dk_21 6 (dk_at dksX1_feed_2 11 rfl rfl)
theorem dX1_feed_59 : decode cX1_feed 59 = .ok (.bipush 16, 2) := dk_16 16 (dk_at dksX1_feed_2 13 rfl rfl)
theorem dX1_feed_61 : decode cX1_feed 61 = .ok (.if_icmp .ge 8, 3) := dk_162 0 8 (dk_at dksX1_feed_2 15 rfl rfl)
theorem dX1_feed_64 : decode cX1_feed 64 = .ok (.iload 4, 2) := dk_21 4 (dk_at dksX1_feed_2 18 rfl rfl)
theorem dX1_feed_66 : decode cX1_feed 66 = .ok (.goto 5, 3) := dk_167 0 5 (dk_at dksX1_feed_2 20 rfl rfl)
theorem dX1_feed_69 : decode cX1_feed 69 = .ok (.iload 5, 2) := dk_21 5 (dk_at dksX1_feed_3 0 rfl rfl)
theorem dX1_feed_71 : decode cX1_feed 71 = .ok (.istore 7, 2) := dk_54 7 (dk_at dksX1_feed_3 2 rfl rfl)
theorem dX1_feed_73 : decode cX1_feed 73 = .ok (.aload_n 0, 1) := dk_42 (dk_at dksX1_feed_3 4 rfl rfl)
theorem dX1_feed_74 : decode cX1_feed 74 = .ok (.getfield 22, 3) := dk_180 0 22 (dk_at dksX1_feed_3 5 rfl rfl)
theorem dX1_feed_77 : decode cX1_feed 77 = .ok (.aload_n 0, 1) := dk_42 (dk_at dksX1_feed_3 8 rfl rfl)
theorem dX1_feed_78 : decode cX1_feed 78 = .ok (.getfield 53, 3) := dk_180 0 53 (dk_at dksX1_feed_3 9 rfl rfl)
theorem dX1_feed_81 : decode cX1_feed 81 = .ok (.iload 6, 2) := dk_21 6 (dk_at dksX1_feed_3 12 rfl rfl)
theorem dX1_feed_83 : decode cX1_feed 83 = .ok (.iadd, 1) := dk_96 (dk_at dksX1_feed_3 14 rfl rfl)
theorem dX1_feed_84 : decode cX1_feed 84 = .ok (.iload 7, 2) := dk_21 7 (dk_at dksX1_feed_3 15 rfl rfl)
theorem dX1_feed_86 : decode cX1_feed 86 = .ok (.bipush 24, 2) := dk_16 24 (dk_at dksX1_feed_3 17 rfl rfl)
theorem dX1_feed_88 : decode cX1_feed 88 = .ok (.bipush 8, 2) := dk_16 8 (dk_at dksX1_feed_3 19 rfl rfl)
theorem dX1_feed_90 : decode cX1_feed 90 = .ok (.iload 6, 2) := dk_21 6 (dk_at dksX1_feed_3 21 rfl rfl)
theorem dX1_feed_92 : decode cX1_feed 92 = .ok (.iconst 4, 1) := dk_7 (dk_at dksX1_feed_3 23 rfl rfl)
theorem dX1_feed_93 : decode cX1_feed 93 = .ok (.irem, 1) := dk_112 (dk_at dksX1_feed_4 0 rfl rfl)
theorem dX1_feed_94 : decode cX1_feed 94 = .ok (.imul, 1) := dk_104 (dk_at dksX1_feed_4 1 rfl rfl)
theorem dX1_feed_95 : decode cX1_feed 95 = .ok (.isub, 1) := dk_100 (dk_at dksX1_feed_4 2 rfl rfl)
theorem dX1_feed_96 : decode cX1_feed 96 = .ok (.ishr, 1) := dk_122 (dk_at dksX1_feed_4 3 rfl rfl)
theorem dX1_feed_97 : decode cX1_feed 97 = .ok (.i2b, 1) := dk_145 (dk_at dksX1_feed_4 4 rfl rfl)
theorem dX1_feed_98 : decode cX1_feed 98 = .ok (.bastore, 1) := dk_84 (dk_at dksX1_feed_4 5 rfl rfl)
theorem dX1_feed_99 : decode cX1_feed 99 = .ok (.iinc 6 1, 3) := dk_132 6 1 (dk_at dksX1_feed_4 6 rfl rfl)
theorem dX1_feed_102 : decode cX1_feed 102 = .ok (.goto (-84), 3) := dk_167 255 172 (dk_at dksX1_feed_4 9 rfl rfl)
theorem dX1_feed_105 : decode cX1_feed 105 = .ok (.aload_n 0, 1) := dk_42 (dk_at dksX1_feed_4 12 rfl rfl)
theorem dX1_feed_106 : decode cX1_feed 106 = .ok (.dup, 1) := dk_89 (dk_at dksX1_feed_4 13 rfl rfl)
theorem dX1_feed_107 : decode cX1_feed 107 = .ok (.getfield 53, 3) := dk_180 0 53 (dk_at dksX1_feed_4 14 rfl rfl)
theorem dX1_feed_110 : decode cX1_feed 110 = .ok (.bipush 20, 2) := dk_16 20 (dk_at dksX1_feed_4 17 rfl rfl)
theorem dX1_feed_112 : decode cX1_feed 112 = .ok (.iadd, 1) := dk_96 (dk_at dksX1_feed_4 19 rfl rfl)
theorem dX1_feed_113 : decode cX1_feed 113 = .ok (.putfield 53, 3) := dk_181 0 53 (dk_at dksX1_feed_4 20 rfl rfl)
theorem dX1_feed_116 : decode cX1_feed 116 = .ok (.aload_n 0, 1) := dk_42 (dk_at dksX1_feed_4 23 rfl rfl)
theorem dX1_feed_117 : decode cX1_feed 117 = .ok (.getfield 53, 3) := dk_180 0 53 (dk_at dksX1_feed_5 0 rfl rfl)
theorem dX1_feed_120 : decode cX1_feed 120 = .ok (.ireturn, 1) := dk_172 (dk_at dksX1_feed_5 3 rfl rfl)
theorem dX1_fault_0 : decode cX1_fault 0 = .ok (.aload_n 0, 1) := by decide +kernel
theorem dX1_fault_1 : decode cX1_fault 1 = .ok (.getfield 26, 3) := by decide +kernel
theorem dX1_fault_4 : decode cX1_fault 4 = .ok (.ireturn, 1) := by decide +kernel
def dkwX1_back_1 : List UInt8 := [185, 0, 107, 1, 0, 4, 100, 185, 0, 198, 2, 0, 87, 42, 180, 0, 40, 185, 0, 107, 1, 0, 172]
abbrev dktX1_back_1 : List UInt8 := dkwX1_back_1 ++ []
def dkwX1_back_0 : List UInt8 := [42, 180, 0, 40, 185, 0, 194, 1, 0, 153, 0, 5, 2, 172, 42, 180, 0, 40, 42, 180, 0, 40]
abbrev dktX1_back_0 : List UInt8 := dkwX1_back_0 ++ dktX1_back_1
theorem dksX1_back_0 : cX1_back.data.toList.drop 0 = dktX1_back_0 := by decide +kernel
theorem dksX1_back_1 : cX1_back.data.toList.drop 22 = dktX1_back_1 := dk_seg dksX1_back_0 22 rfl rfl
theorem dX1_back_0 : decode cX1_back 0 = .ok (.aload_n 0, 1) := dk_42 (dk_at dksX1_back_0 0 rfl rfl)
theorem dX1_back_1 : decode cX1_back 1 = .ok (.getfield 40, 3) := dk_180 0 40 (dk_at dksX1_back_0 1 rfl rfl)
theorem dX1_back_4 : decode cX1_back 4 = .ok (.invokeinterface 194 1, 5) := by decide +kernel
theorem dX1_back_9 : decode cX1_back 9 = .ok (.ifCond .eq 5, 3) := dk_153 0 5 (dk_at dksX1_back_0 9 rfl rfl)
theorem dX1_back_12 : decode cX1_back 12 = .ok (.iconst (-1), 1) := dk_2 (dk_at dksX1_back_0 12 rfl rfl)
theorem dX1_back_13 : decode cX1_back 13 = .ok (.ireturn, 1) := dk_172 (dk_at dksX1_back_0 13 rfl rfl)
theorem dX1_back_14 : decode cX1_back 14 = .ok (.aload_n 0, 1) := dk_42 (dk_at dksX1_back_0 14 rfl rfl)
theorem dX1_back_15 : decode cX1_back 15 = .ok (.getfield 40, 3) := dk_180 0 40 (dk_at dksX1_back_0 15 rfl rfl)
theorem dX1_back_18 : decode cX1_back 18 = .ok (.aload_n 0, 1) := dk_42 (dk_at dksX1_back_0 18 rfl rfl)
theorem dX1_back_19 : decode cX1_back 19 = .ok (.getfield 40, 3) := dk_180 0 40 (dk_at dksX1_back_0 19 rfl rfl)
theorem dX1_back_22 : decode cX1_back 22 = .ok (.invokeinterface 107 1, 5) := by decide +kernel
theorem dX1_back_27 : decode cX1_back 27 = .ok (.iconst 1, 1) := dk_4 (dk_at dksX1_back_1 5 rfl rfl)
theorem dX1_back_28 : decode cX1_back 28 = .ok (.isub, 1) := dk_100 (dk_at dksX1_back_1 6 rfl rfl)
theorem dX1_back_29 : decode cX1_back 29 = .ok (.invokeinterface 198 2, 5) := by decide +kernel
theorem dX1_back_34 : decode cX1_back 34 = .ok (.pop, 1) := dk_87 (dk_at dksX1_back_1 12 rfl rfl)
theorem dX1_back_35 : decode cX1_back 35 = .ok (.aload_n 0, 1) := dk_42 (dk_at dksX1_back_1 13 rfl rfl)
theorem dX1_back_36 : decode cX1_back 36 = .ok (.getfield 40, 3) := dk_180 0 40 (dk_at dksX1_back_1 14 rfl rfl)
theorem dX1_back_39 : decode cX1_back 39 = .ok (.invokeinterface 107 1, 5) := by decide +kernel
theorem dX1_back_44 : decode cX1_back 44 = .ok (.ireturn, 1) := dk_172 (dk_at dksX1_back_1 22 rfl rfl)
def dkwX1_draw_4 : List UInt8 := [167, 255, 167, 177]
abbrev dktX1_draw_4 : List UInt8 := dkwX1_draw_4 ++ []
def dkwX1_draw_3 : List UInt8 := [16, 24, 21, 4, 104, 29, 96, 25, 5, 21, 6, 46, 79, 132, 4, 1, 167, 255, 182, 132, 3, 1]
abbrev dktX1_draw_3 : List UInt8 := dkwX1_draw_3 ++ dktX1_draw_4
def dkwX1_draw_2 : List UInt8 := [104, 17, 48, 57, 96, 61, 28, 16, 16, 122, 17, 127, 255, 126, 25, 5, 190, 112, 54, 6, 42, 180, 0, 44]
abbrev dktX1_draw_2 : List UInt8 := dkwX1_draw_2 ++ dktX1_draw_3
def dkwX1_draw_1 : List UInt8 := [21, 4, 182, 0, 81, 29, 182, 0, 85, 58, 5, 3, 54, 6, 25, 5, 190, 4, 164, 0, 26, 28, 18, 201]
abbrev dktX1_draw_1 : List UInt8 := dkwX1_draw_1 ++ dktX1_draw_2
def dkwX1_draw_0 : List UInt8 := [27, 61, 3, 62, 29, 16, 24, 162, 0, 89, 3, 54, 4, 21, 4, 42, 182, 0, 77, 162, 0, 71, 42]
abbrev dktX1_draw_0 : List UInt8 := dkwX1_draw_0 ++ dktX1_draw_1
theorem dksX1_draw_0 : cX1_draw.data.toList.drop 0 = dktX1_draw_0 := by decide +kernel
theorem dksX1_draw_1 : cX1_draw.data.toList.drop 23 = dktX1_draw_1 := dk_seg dksX1_draw_0 23 rfl rfl
theorem dksX1_draw_2 : cX1_draw.data.toList.drop 47 = dktX1_draw_2 := dk_seg dksX1_draw_1 24 rfl rfl
theorem dksX1_draw_3 : cX1_draw.data.toList.drop 71 = dktX1_draw_3 := dk_seg dksX1_draw_2 24 rfl rfl
theorem dksX1_draw_4 : cX1_draw.data.toList.drop 93 = dktX1_draw_4 := dk_seg dksX1_draw_3 22 rfl rfl
theorem dX1_draw_0 : decode cX1_draw 0 = .ok (.iload_n 1, 1) := dk_27 (dk_at dksX1_draw_0 0 rfl rfl)
theorem dX1_draw_1 : decode cX1_draw 1 = .ok (.istore_n 2, 1) := dk_61 (dk_at dksX1_draw_0 1 rfl rfl)
theorem dX1_draw_2 : decode cX1_draw 2 = .ok (.iconst 0, 1) := dk_3 (dk_at dksX1_draw_0 2 rfl rfl)
theorem dX1_draw_3 : decode cX1_draw 3 = .ok (.istore_n 3, 1) := dk_62 (dk_at dksX1_draw_0 3 rfl rfl)
theorem dX1_draw_4 : decode cX1_draw 4 = .ok (.iload_n 3, 1) := dk_29 (dk_at dksX1_draw_0 4 rfl rfl)
theorem dX1_draw_5 : decode cX1_draw 5 = .ok (.bipush 24, 2) := dk_16 24 (dk_at dksX1_draw_0 5 rfl rfl)
theorem dX1_draw_7 : decode cX1_draw 7 = .ok (.if_icmp .ge 89, 3) := dk_162 0 89 (dk_at dksX1_draw_0 7 rfl rfl)
theorem dX1_draw_10 : decode cX1_draw 10 = .ok (.iconst 0, 1) := dk_3 (dk_at dksX1_draw_0 10 rfl rfl)
theorem dX1_draw_11 : decode cX1_draw 11 = .ok (.istore 4, 2) := dk_54 4 (dk_at dksX1_draw_0 11 rfl rfl)
theorem dX1_draw_13 : decode cX1_draw 13 = .ok (.iload 4, 2) := dk_21 4 (dk_at dksX1_draw_0 13 rfl rfl)
theorem dX1_draw_15 : decode cX1_draw 15 = .ok (.aload_n 0, 1) := dk_42 (dk_at dksX1_draw_0 15 rfl rfl)
theorem dX1_draw_16 : decode cX1_draw 16 = .ok (.invokevirtual 77, 3) := dk_182 0 77 (dk_at dksX1_draw_0 16 rfl rfl)
theorem dX1_draw_19 : decode cX1_draw 19 = .ok (.if_icmp .ge 71, 3) := dk_162 0 71 (dk_at dksX1_draw_0 19 rfl rfl)
theorem dX1_draw_22 : decode cX1_draw 22 = .ok (.aload_n 0, 1) := dk_42 (dk_at dksX1_draw_0 22 rfl rfl)
theorem dX1_draw_23 : decode cX1_draw 23 = .ok (.iload 4, 2) := dk_21 4 (dk_at dksX1_draw_1 0 rfl rfl)
theorem dX1_draw_25 : decode cX1_draw 25 = .ok (.invokevirtual 81, 3) := dk_182 0 81 (dk_at dksX1_draw_1 2 rfl rfl)
theorem dX1_draw_28 : decode cX1_draw 28 = .ok (.iload_n 3, 1) := dk_29 (dk_at dksX1_draw_1 5 rfl rfl)
theorem dX1_draw_29 : decode cX1_draw 29 = .ok (.invokevirtual 85, 3) := dk_182 0 85 (dk_at dksX1_draw_1 6 rfl rfl)
theorem dX1_draw_32 : decode cX1_draw 32 = .ok (.astore 5, 2) := dk_58 5 (dk_at dksX1_draw_1 9 rfl rfl)
theorem dX1_draw_34 : decode cX1_draw 34 = .ok (.iconst 0, 1) := dk_3 (dk_at dksX1_draw_1 11 rfl rfl)
theorem dX1_draw_35 : decode cX1_draw 35 = .ok (.istore 6, 2) := dk_54 6 (dk_at dksX1_draw_1 12 rfl rfl)
theorem dX1_draw_37 : decode cX1_draw 37 = .ok (.aload 5, 2) := dk_25 5 (dk_at dksX1_draw_1 14 rfl rfl)
theorem dX1_draw_39 : decode cX1_draw 39 = .ok (.arraylength, 1) := dk_190 (dk_at dksX1_draw_1 16 rfl rfl)
theorem dX1_draw_40 : decode cX1_draw 40 = .ok (.iconst 1, 1) := dk_4 (dk_at dksX1_draw_1 17 rfl rfl)
theorem dX1_draw_41 : decode cX1_draw 41 = .ok (.if_icmp .le 26, 3) := dk_164 0 26 (dk_at dksX1_draw_1 18 rfl rfl)
theorem dX1_draw_44 : decode cX1_draw 44 = .ok (.iload_n 2, 1) := dk_28 (dk_at dksX1_draw_1 21 rfl rfl)
theorem dX1_draw_45 : decode cX1_draw 45 = .ok (.ldc 201, 2) := dk_18 201 (dk_at dksX1_draw_1 22 rfl rfl)
theorem dX1_draw_47 : decode cX1_draw 47 = .ok (.imul, 1) := dk_104 (dk_at dksX1_draw_2 0 rfl rfl)
theorem dX1_draw_48 : decode cX1_draw 48 = .ok (.sipush 12345, 3) := dk_17 48 57 (dk_at dksX1_draw_2 1 rfl rfl)
theorem dX1_draw_51 : decode cX1_draw 51 = .ok (.iadd, 1) := dk_96 (dk_at dksX1_draw_2 4 rfl rfl)
theorem dX1_draw_52 : decode cX1_draw 52 = .ok (.istore_n 2, 1) := dk_61 (dk_at dksX1_draw_2 5 rfl rfl)
theorem dX1_draw_53 : decode cX1_draw 53 = .ok (.iload_n 2, 1) := dk_28 (dk_at dksX1_draw_2 6 rfl rfl)
theorem dX1_draw_54 : decode cX1_draw 54 = .ok (.bipush 16, 2) := dk_16 16 (dk_at dksX1_draw_2 7 rfl rfl)
theorem dX1_draw_56 : decode cX1_draw 56 = .ok (.ishr, 1) := dk_122 (dk_at dksX1_draw_2 9 rfl rfl)
theorem dX1_draw_57 : decode cX1_draw 57 = .ok (.sipush 32767, 3) := dk_17 127 255 (dk_at dksX1_draw_2 10 rfl rfl)
theorem dX1_draw_60 : decode cX1_draw 60 = .ok (.iand, 1) := dk_126 (dk_at dksX1_draw_2 13 rfl rfl)
theorem dX1_draw_61 : decode cX1_draw 61 = .ok (.aload 5, 2) := dk_25 5 (dk_at dksX1_draw_2 14 rfl rfl)
theorem dX1_draw_63 : decode cX1_draw 63 = .ok (.arraylength, 1) := dk_190 (dk_at dksX1_draw_2 16 rfl rfl)
theorem dX1_draw_64 : decode cX1_draw 64 = .ok (.irem, 1) := dk_112 (dk_at dksX1_draw_2 17 rfl rfl)
theorem dX1_draw_65 : decode cX1_draw 65 = .ok (.istore 6, 2) := dk_54 6 (dk_at dksX1_draw_2 18 rfl rfl)
theorem dX1_draw_67 : decode cX1_draw 67 = .ok (.aload_n 0, 1) := dk_42 (dk_at dksX1_draw_2 20 rfl rfl)
theorem dX1_draw_68 : decode cX1_draw 68 = .ok (.getfield 44, 3) := dk_180 0 44 (dk_at dksX1_draw_2 21 rfl rfl)
theorem dX1_draw_71 : decode cX1_draw 71 = .ok (.bipush 24, 2) := dk_16 24 (dk_at dksX1_draw_3 0 rfl rfl)
theorem dX1_draw_73 : decode cX1_draw 73 = .ok (.iload 4, 2) := dk_21 4 (dk_at dksX1_draw_3 2 rfl rfl)
theorem dX1_draw_75 : decode cX1_draw 75 = .ok (.imul, 1) := dk_104 (dk_at dksX1_draw_3 4 rfl rfl)
theorem dX1_draw_76 : decode cX1_draw 76 = .ok (.iload_n 3, 1) := dk_29 (dk_at dksX1_draw_3 5 rfl rfl)
theorem dX1_draw_77 : decode cX1_draw 77 = .ok (.iadd, 1) := dk_96 (dk_at dksX1_draw_3 6 rfl rfl)
theorem dX1_draw_78 : decode cX1_draw 78 = .ok (.aload 5, 2) := dk_25 5 (dk_at dksX1_draw_3 7 rfl rfl)
theorem dX1_draw_80 : decode cX1_draw 80 = .ok (.iload 6, 2) := dk_21 6 (dk_at dksX1_draw_3 9 rfl rfl)
theorem dX1_draw_82 : decode cX1_draw 82 = .ok (.iaload, 1) := dk_46 (dk_at dksX1_draw_3 11 rfl rfl)
theorem dX1_draw_83 : decode cX1_draw 83 = .ok (.iastore, 1) := dk_79 (dk_at dksX1_draw_3 12 rfl rfl)
theorem dX1_draw_84 : decode cX1_draw 84 = .ok (.iinc 4 1, 3) := dk_132 4 1 (dk_at dksX1_draw_3 13 rfl rfl)
theorem dX1_draw_87 : decode cX1_draw 87 = .ok (.goto (-74), 3) := dk_167 255 182 (dk_at dksX1_draw_3 16 rfl rfl)
theorem dX1_draw_90 : decode cX1_draw 90 = .ok (.iinc 3 1, 3) := dk_132 3 1 (dk_at dksX1_draw_3 19 rfl rfl)
theorem dX1_draw_93 : decode cX1_draw 93 = .ok (.goto (-89), 3) := dk_167 255 167 (dk_at dksX1_draw_4 0 rfl rfl)
theorem dX1_draw_96 : decode cX1_draw 96 = .ok (.return_, 1) := dk_177 (dk_at dksX1_draw_4 3 rfl rfl)
def dkwX1_lodgers_0 : List UInt8 := [42, 180, 0, 16, 180, 0, 105, 185, 0, 107, 1, 0, 172]
abbrev dktX1_lodgers_0 : List UInt8 := dkwX1_lodgers_0 ++ []
theorem dksX1_lodgers_0 : cX1_lodgers.data.toList.drop 0 = dktX1_lodgers_0 := by decide +kernel
theorem dX1_lodgers_0 : decode cX1_lodgers 0 = .ok (.aload_n 0, 1) := dk_42 (dk_at dksX1_lodgers_0 0 rfl rfl)
theorem dX1_lodgers_1 : decode cX1_lodgers 1 = .ok (.getfield 16, 3) := dk_180 0 16 (dk_at dksX1_lodgers_0 1 rfl rfl)
theorem dX1_lodgers_4 : decode cX1_lodgers 4 = .ok (.getfield 105, 3) := dk_180 0 105 (dk_at dksX1_lodgers_0 4 rfl rfl)
theorem dX1_lodgers_7 : decode cX1_lodgers 7 = .ok (.invokeinterface 107 1, 5) := by decide +kernel
theorem dX1_lodgers_12 : decode cX1_lodgers 12 = .ok (.ireturn, 1) := dk_172 (dk_at dksX1_lodgers_0 12 rfl rfl)
def dkwX1_of_0 : List UInt8 := [42, 180, 0, 16, 180, 0, 105, 27, 185, 0, 112, 2, 0, 192, 0, 86, 176]
abbrev dktX1_of_0 : List UInt8 := dkwX1_of_0 ++ []
theorem dksX1_of_0 : cX1_of.data.toList.drop 0 = dktX1_of_0 := by decide +kernel
theorem dX1_of_0 : decode cX1_of 0 = .ok (.aload_n 0, 1) := dk_42 (dk_at dksX1_of_0 0 rfl rfl)
theorem dX1_of_1 : decode cX1_of 1 = .ok (.getfield 16, 3) := dk_180 0 16 (dk_at dksX1_of_0 1 rfl rfl)
theorem dX1_of_4 : decode cX1_of 4 = .ok (.getfield 105, 3) := dk_180 0 105 (dk_at dksX1_of_0 4 rfl rfl)
theorem dX1_of_7 : decode cX1_of 7 = .ok (.iload_n 1, 1) := dk_27 (dk_at dksX1_of_0 7 rfl rfl)
theorem dX1_of_8 : decode cX1_of 8 = .ok (.invokeinterface 112 2, 5) := by decide +kernel
theorem dX1_of_13 : decode cX1_of 13 = .ok (.checkcast 86, 3) := dk_192 0 86 (dk_at dksX1_of_0 13 rfl rfl)
theorem dX1_of_16 : decode cX1_of 16 = .ok (.areturn, 1) := dk_176 (dk_at dksX1_of_0 16 rfl rfl)
def dkwX1_forget_0 : List UInt8 := [42, 180, 0, 125, 184, 0, 205, 60, 42, 3, 181, 0, 125, 42, 2, 181, 0, 50, 27, 172]
abbrev dktX1_forget_0 : List UInt8 := dkwX1_forget_0 ++ []
theorem dksX1_forget_0 : cX1_forget.data.toList.drop 0 = dktX1_forget_0 := by decide +kernel
theorem dX1_forget_0 : decode cX1_forget 0 = .ok (.aload_n 0, 1) := dk_42 (dk_at dksX1_forget_0 0 rfl rfl)
theorem dX1_forget_1 : decode cX1_forget 1 = .ok (.getfield 125, 3) := dk_180 0 125 (dk_at dksX1_forget_0 1 rfl rfl)
theorem dX1_forget_4 : decode cX1_forget 4 = .ok (.invokestatic 205, 3) := dk_184 0 205 (dk_at dksX1_forget_0 4 rfl rfl)
theorem dX1_forget_7 : decode cX1_forget 7 = .ok (.istore_n 1, 1) := dk_60 (dk_at dksX1_forget_0 7 rfl rfl)
theorem dX1_forget_8 : decode cX1_forget 8 = .ok (.aload_n 0, 1) := dk_42 (dk_at dksX1_forget_0 8 rfl rfl)
theorem dX1_forget_9 : decode cX1_forget 9 = .ok (.iconst 0, 1) := dk_3 (dk_at dksX1_forget_0 9 rfl rfl)
theorem dX1_forget_10 : decode cX1_forget 10 = .ok (.putfield 125, 3) := dk_181 0 125 (dk_at dksX1_forget_0 10 rfl rfl)
theorem dX1_forget_13 : decode cX1_forget 13 = .ok (.aload_n 0, 1) := dk_42 (dk_at dksX1_forget_0 13 rfl rfl)
theorem dX1_forget_14 : decode cX1_forget 14 = .ok (.iconst (-1), 1) := dk_2 (dk_at dksX1_forget_0 14 rfl rfl)
theorem dX1_forget_15 : decode cX1_forget 15 = .ok (.putfield 50, 3) := dk_181 0 50 (dk_at dksX1_forget_0 15 rfl rfl)
theorem dX1_forget_18 : decode cX1_forget 18 = .ok (.iload_n 1, 1) := dk_27 (dk_at dksX1_forget_0 18 rfl rfl)
theorem dX1_forget_19 : decode cX1_forget 19 = .ok (.ireturn, 1) := dk_172 (dk_at dksX1_forget_0 19 rfl rfl)
def dkwX1_cases_0 : List UInt8 := [42, 182, 0, 220, 180, 0, 224, 172]
abbrev dktX1_cases_0 : List UInt8 := dkwX1_cases_0 ++ []
theorem dksX1_cases_0 : cX1_cases.data.toList.drop 0 = dktX1_cases_0 := by decide +kernel
theorem dX1_cases_0 : decode cX1_cases 0 = .ok (.aload_n 0, 1) := dk_42 (dk_at dksX1_cases_0 0 rfl rfl)
theorem dX1_cases_1 : decode cX1_cases 1 = .ok (.invokevirtual 220, 3) := dk_182 0 220 (dk_at dksX1_cases_0 1 rfl rfl)
theorem dX1_cases_4 : decode cX1_cases 4 = .ok (.getfield 224, 3) := dk_180 0 224 (dk_at dksX1_cases_0 4 rfl rfl)
theorem dX1_cases_7 : decode cX1_cases 7 = .ok (.ireturn, 1) := dk_172 (dk_at dksX1_cases_0 7 rfl rfl)
def dkwX1_now_1 : List UInt8 := [176]
abbrev dktX1_now_1 : List UInt8 := dkwX1_now_1 ++ []
def dkwX1_now_0 : List UInt8 := [187, 0, 210, 89, 42, 3, 42, 180, 0, 50, 184, 0, 212, 42, 180, 0, 125, 42, 180, 0, 34, 183, 0, 217]
abbrev dktX1_now_0 : List UInt8 := dkwX1_now_0 ++ dktX1_now_1
theorem dksX1_now_0 : cX1_now.data.toList.drop 0 = dktX1_now_0 := by decide +kernel
theorem dksX1_now_1 : cX1_now.data.toList.drop 24 = dktX1_now_1 := dk_seg dksX1_now_0 24 rfl rfl
theorem dX1_now_0 : decode cX1_now 0 = .ok (.new 210, 3) := dk_187 0 210 (dk_at dksX1_now_0 0 rfl rfl)
theorem dX1_now_3 : decode cX1_now 3 = .ok (.dup, 1) := dk_89 (dk_at dksX1_now_0 3 rfl rfl)
theorem dX1_now_4 : decode cX1_now 4 = .ok (.aload_n 0, 1) := dk_42 (dk_at dksX1_now_0 4 rfl rfl)
theorem dX1_now_5 : decode cX1_now 5 = .ok (.iconst 0, 1) := dk_3 (dk_at dksX1_now_0 5 rfl rfl)
theorem dX1_now_6 : decode cX1_now 6 = .ok (.aload_n 0, 1) := dk_42 (dk_at dksX1_now_0 6 rfl rfl)
theorem dX1_now_7 : decode cX1_now 7 = .ok (.getfield 50, 3) := dk_180 0 50 (dk_at dksX1_now_0 7 rfl rfl)
theorem dX1_now_10 : decode cX1_now 10 = .ok (.invokestatic 212, 3) := dk_184 0 212 (dk_at dksX1_now_0 10 rfl rfl)
theorem dX1_now_13 : decode cX1_now 13 = .ok (.aload_n 0, 1) := dk_42 (dk_at dksX1_now_0 13 rfl rfl)
theorem dX1_now_14 : decode cX1_now 14 = .ok (.getfield 125, 3) := dk_180 0 125 (dk_at dksX1_now_0 14 rfl rfl)
theorem dX1_now_17 : decode cX1_now 17 = .ok (.aload_n 0, 1) := dk_42 (dk_at dksX1_now_0 17 rfl rfl)
theorem dX1_now_18 : decode cX1_now 18 = .ok (.getfield 34, 3) := dk_180 0 34 (dk_at dksX1_now_0 18 rfl rfl)
theorem dX1_now_21 : decode cX1_now 21 = .ok (.invokespecial 217, 3) := dk_183 0 217 (dk_at dksX1_now_0 21 rfl rfl)
theorem dX1_now_24 : decode cX1_now 24 = .ok (.areturn, 1) := dk_176 (dk_at dksX1_now_1 0 rfl rfl)
def dkwX1_signFor_0 : List UInt8 := [42, 180, 0, 16, 28, 182, 0, 178, 42, 27, 182, 0, 181, 126, 172]
abbrev dktX1_signFor_0 : List UInt8 := dkwX1_signFor_0 ++ []
theorem dksX1_signFor_0 : cX1_signFor.data.toList.drop 0 = dktX1_signFor_0 := by decide +kernel
theorem dX1_signFor_0 : decode cX1_signFor 0 = .ok (.aload_n 0, 1) := dk_42 (dk_at dksX1_signFor_0 0 rfl rfl)
theorem dX1_signFor_1 : decode cX1_signFor 1 = .ok (.getfield 16, 3) := dk_180 0 16 (dk_at dksX1_signFor_0 1 rfl rfl)
theorem dX1_signFor_4 : decode cX1_signFor 4 = .ok (.iload_n 2, 1) := dk_28 (dk_at dksX1_signFor_0 4 rfl rfl)
theorem dX1_signFor_5 : decode cX1_signFor 5 = .ok (.invokevirtual 178, 3) := dk_182 0 178 (dk_at dksX1_signFor_0 5 rfl rfl)
theorem dX1_signFor_8 : decode cX1_signFor 8 = .ok (.aload_n 0, 1) := dk_42 (dk_at dksX1_signFor_0 8 rfl rfl)
theorem dX1_signFor_9 : decode cX1_signFor 9 = .ok (.iload_n 1, 1) := dk_27 (dk_at dksX1_signFor_0 9 rfl rfl)
theorem dX1_signFor_10 : decode cX1_signFor 10 = .ok (.invokevirtual 181, 3) := dk_182 0 181 (dk_at dksX1_signFor_0 10 rfl rfl)
theorem dX1_signFor_13 : decode cX1_signFor 13 = .ok (.iand, 1) := dk_126 (dk_at dksX1_signFor_0 13 rfl rfl)
theorem dX1_signFor_14 : decode cX1_signFor 14 = .ok (.ireturn, 1) := dk_172 (dk_at dksX1_signFor_0 14 rfl rfl)
def dkwX1_feet_1 : List UInt8 := [167, 0, 4, 3, 128, 172]
abbrev dktX1_feet_1 : List UInt8 := dkwX1_feet_1 ++ []
def dkwX1_feet_0 : List UInt8 := [42, 27, 4, 182, 0, 166, 158, 0, 7, 4, 167, 0, 4, 3, 42, 27, 5, 182, 0, 166, 158, 0, 7, 5]
abbrev dktX1_feet_0 : List UInt8 := dkwX1_feet_0 ++ dktX1_feet_1
theorem dksX1_feet_0 : cX1_feet.data.toList.drop 0 = dktX1_feet_0 := by decide +kernel
theorem dksX1_feet_1 : cX1_feet.data.toList.drop 24 = dktX1_feet_1 := dk_seg dksX1_feet_0 24 rfl rfl
theorem dX1_feet_0 : decode cX1_feet 0 = .ok (.aload_n 0, 1) := dk_42 (dk_at dksX1_feet_0 0 rfl rfl)
theorem dX1_feet_1 : decode cX1_feet 1 = .ok (.iload_n 1, 1) := dk_27 (dk_at dksX1_feet_0 1 rfl rfl)
theorem dX1_feet_2 : decode cX1_feet 2 = .ok (.iconst 1, 1) := dk_4 (dk_at dksX1_feet_0 2 rfl rfl)
theorem dX1_feet_3 : decode cX1_feet 3 = .ok (.invokevirtual 166, 3) := dk_182 0 166 (dk_at dksX1_feet_0 3 rfl rfl)
theorem dX1_feet_6 : decode cX1_feet 6 = .ok (.ifCond .le 7, 3) := dk_158 0 7 (dk_at dksX1_feet_0 6 rfl rfl)
theorem dX1_feet_9 : decode cX1_feet 9 = .ok (.iconst 1, 1) := dk_4 (dk_at dksX1_feet_0 9 rfl rfl)
theorem dX1_feet_10 : decode cX1_feet 10 = .ok (.goto 4, 3) := dk_167 0 4 (dk_at dksX1_feet_0 10 rfl rfl)
theorem dX1_feet_13 : decode cX1_feet 13 = .ok (.iconst 0, 1) := dk_3 (dk_at dksX1_feet_0 13 rfl rfl)
theorem dX1_feet_14 : decode cX1_feet 14 = .ok (.aload_n 0, 1) := dk_42 (dk_at dksX1_feet_0 14 rfl rfl)
theorem dX1_feet_15 : decode cX1_feet 15 = .ok (.iload_n 1, 1) := dk_27 (dk_at dksX1_feet_0 15 rfl rfl)
theorem dX1_feet_16 : decode cX1_feet 16 = .ok (.iconst 2, 1) := dk_5 (dk_at dksX1_feet_0 16 rfl rfl)
theorem dX1_feet_17 : decode cX1_feet 17 = .ok (.invokevirtual 166, 3) := dk_182 0 166 (dk_at dksX1_feet_0 17 rfl rfl)
theorem dX1_feet_20 : decode cX1_feet 20 = .ok (.ifCond .le 7, 3) := dk_158 0 7 (dk_at dksX1_feet_0 20 rfl rfl)
theorem dX1_feet_23 : decode cX1_feet 23 = .ok (.iconst 2, 1) := dk_5 (dk_at dksX1_feet_0 23 rfl rfl)
theorem dX1_feet_24 : decode cX1_feet 24 = .ok (.goto 4, 3) := dk_167 0 4 (dk_at dksX1_feet_1 0 rfl rfl)
theorem dX1_feet_27 : decode cX1_feet 27 = .ok (.iconst 0, 1) := dk_3 (dk_at dksX1_feet_1 3 rfl rfl)
theorem dX1_feet_28 : decode cX1_feet 28 = .ok (.ior, 1) := dk_128 (dk_at dksX1_feet_1 4 rfl rfl)
theorem dX1_feet_29 : decode cX1_feet 29 = .ok (.ireturn, 1) := dk_172 (dk_at dksX1_feet_1 5 rfl rfl)
def dkwX1_shoes_3 : List UInt8 := [25, 5, 180, 0, 163, 27, 160, 0, 6, 132, 3, 1, 132, 4, 1, 167, 255, 187, 29, 172]
abbrev dktX1_shoes_3 : List UInt8 := dkwX1_shoes_3 ++ []
def dkwX1_shoes_2 : List UInt8 := [25, 5, 180, 0, 157, 28, 159, 0, 6, 167, 0, 27, 25, 5, 180, 0, 160, 27, 160, 0, 6, 132, 3, 255]
abbrev dktX1_shoes_2 : List UInt8 := dkwX1_shoes_2 ++ dktX1_shoes_3
def dkwX1_shoes_1 : List UInt8 := [185, 0, 107, 1, 0, 162, 0, 61, 42, 180, 0, 40, 21, 4, 185, 0, 112, 2, 0, 192, 0, 155, 58, 5]
abbrev dktX1_shoes_1 : List UInt8 := dkwX1_shoes_1 ++ dktX1_shoes_2
def dkwX1_shoes_0 : List UInt8 := [42, 27, 182, 0, 81, 180, 0, 152, 28, 46, 62, 3, 54, 4, 21, 4, 42, 180, 0, 40]
abbrev dktX1_shoes_0 : List UInt8 := dkwX1_shoes_0 ++ dktX1_shoes_1
theorem dksX1_shoes_0 : cX1_shoes.data.toList.drop 0 = dktX1_shoes_0 := by decide +kernel
theorem dksX1_shoes_1 : cX1_shoes.data.toList.drop 20 = dktX1_shoes_1 := dk_seg dksX1_shoes_0 20 rfl rfl
theorem dksX1_shoes_2 : cX1_shoes.data.toList.drop 44 = dktX1_shoes_2 := dk_seg dksX1_shoes_1 24 rfl rfl
theorem dksX1_shoes_3 : cX1_shoes.data.toList.drop 68 = dktX1_shoes_3 := dk_seg dksX1_shoes_2 24 rfl rfl
theorem dX1_shoes_0 : decode cX1_shoes 0 = .ok (.aload_n 0, 1) := dk_42 (dk_at dksX1_shoes_0 0 rfl rfl)
theorem dX1_shoes_1 : decode cX1_shoes 1 = .ok (.iload_n 1, 1) := dk_27 (dk_at dksX1_shoes_0 1 rfl rfl)
theorem dX1_shoes_2 : decode cX1_shoes 2 = .ok (.invokevirtual 81, 3) := dk_182 0 81 (dk_at dksX1_shoes_0 2 rfl rfl)
theorem dX1_shoes_5 : decode cX1_shoes 5 = .ok (.getfield 152, 3) := dk_180 0 152 (dk_at dksX1_shoes_0 5 rfl rfl)
theorem dX1_shoes_8 : decode cX1_shoes 8 = .ok (.iload_n 2, 1) := dk_28 (dk_at dksX1_shoes_0 8 rfl rfl)
theorem dX1_shoes_9 : decode cX1_shoes 9 = .ok (.iaload, 1) := dk_46 (dk_at dksX1_shoes_0 9 rfl rfl)
theorem dX1_shoes_10 : decode cX1_shoes 10 = .ok (.istore_n 3, 1) := dk_62 (dk_at dksX1_shoes_0 10 rfl rfl)
theorem dX1_shoes_11 : decode cX1_shoes 11 = .ok (.iconst 0, 1) := dk_3 (dk_at dksX1_shoes_0 11 rfl rfl)
theorem dX1_shoes_12 : decode cX1_shoes 12 = .ok (.istore 4, 2) := dk_54 4 (dk_at dksX1_shoes_0 12 rfl rfl)
theorem dX1_shoes_14 : decode cX1_shoes 14 = .ok (.iload 4, 2) := dk_21 4 (dk_at dksX1_shoes_0 14 rfl rfl)
theorem dX1_shoes_16 : decode cX1_shoes 16 = .ok (.aload_n 0, 1) := dk_42 (dk_at dksX1_shoes_0 16 rfl rfl)
theorem dX1_shoes_17 : decode cX1_shoes 17 = .ok (.getfield 40, 3) := dk_180 0 40 (dk_at dksX1_shoes_0 17 rfl rfl)
theorem dX1_shoes_20 : decode cX1_shoes 20 = .ok (.invokeinterface 107 1, 5) := by decide +kernel
theorem dX1_shoes_25 : decode cX1_shoes 25 = .ok (.if_icmp .ge 61, 3) := dk_162 0 61 (dk_at dksX1_shoes_1 5 rfl rfl)
theorem dX1_shoes_28 : decode cX1_shoes 28 = .ok (.aload_n 0, 1) := dk_42 (dk_at dksX1_shoes_1 8 rfl rfl)
theorem dX1_shoes_29 : decode cX1_shoes 29 = .ok (.getfield 40, 3) := dk_180 0 40 (dk_at dksX1_shoes_1 9 rfl rfl)
theorem dX1_shoes_32 : decode cX1_shoes 32 = .ok (.iload 4, 2) := dk_21 4 (dk_at dksX1_shoes_1 12 rfl rfl)
theorem dX1_shoes_34 : decode cX1_shoes 34 = .ok (.invokeinterface 112 2, 5) := by decide +kernel
theorem dX1_shoes_39 : decode cX1_shoes 39 = .ok (.checkcast 155, 3) := dk_192 0 155 (dk_at dksX1_shoes_1 19 rfl rfl)
theorem dX1_shoes_42 : decode cX1_shoes 42 = .ok (.astore 5, 2) := dk_58 5 (dk_at dksX1_shoes_1 22 rfl rfl)
theorem dX1_shoes_44 : decode cX1_shoes 44 = .ok (.aload 5, 2) := dk_25 5 (dk_at dksX1_shoes_2 0 rfl rfl)
theorem dX1_shoes_46 : decode cX1_shoes 46 = .ok (.getfield 157, 3) := dk_180 0 157 (dk_at dksX1_shoes_2 2 rfl rfl)
theorem dX1_shoes_49 : decode cX1_shoes 49 = .ok (.iload_n 2, 1) := dk_28 (dk_at dksX1_shoes_2 5 rfl rfl)
theorem dX1_shoes_50 : decode cX1_shoes 50 = .ok (.if_icmp .eq 6, 3) := dk_159 0 6 (dk_at dksX1_shoes_2 6 rfl rfl)
theorem dX1_shoes_53 : decode cX1_shoes 53 = .ok (.goto 27, 3) := dk_167 0 27 (dk_at dksX1_shoes_2 9 rfl rfl)
theorem dX1_shoes_56 : decode cX1_shoes 56 = .ok (.aload 5, 2) := dk_25 5 (dk_at dksX1_shoes_2 12 rfl rfl)
theorem dX1_shoes_58 : decode cX1_shoes 58 = .ok (.getfield 160, 3) := dk_180 0 160 (dk_at dksX1_shoes_2 14 rfl rfl)
theorem dX1_shoes_61 : decode cX1_shoes 61 = .ok (.iload_n 1, 1) := dk_27 (dk_at dksX1_shoes_2 17 rfl rfl)
theorem dX1_shoes_62 : decode cX1_shoes 62 = .ok (.if_icmp .ne 6, 3) := dk_160 0 6 (dk_at dksX1_shoes_2 18 rfl rfl)
theorem dX1_shoes_65 : decode cX1_shoes 65 = .ok (.iinc 3 (-1), 3) := dk_132 3 255 (dk_at dksX1_shoes_2 21 rfl rfl)
theorem dX1_shoes_68 : decode cX1_shoes 68 = .ok (.aload 5, 2) := dk_25 5 (dk_at dksX1_shoes_3 0 rfl rfl)
theorem dX1_shoes_70 : decode cX1_shoes 70 = .ok (.getfield 163, 3) := dk_180 0 163 (dk_at dksX1_shoes_3 2 rfl rfl)
theorem dX1_shoes_73 : decode cX1_shoes 73 = .ok (.iload_n 1, 1) := dk_27 (dk_at dksX1_shoes_3 5 rfl rfl)
theorem dX1_shoes_74 : decode cX1_shoes 74 = .ok (.if_icmp .ne 6, 3) := dk_160 0 6 (dk_at dksX1_shoes_3 6 rfl rfl)
theorem dX1_shoes_77 : decode cX1_shoes 77 = .ok (.iinc 3 1, 3) := dk_132 3 1 (dk_at dksX1_shoes_3 9 rfl rfl)
theorem dX1_shoes_80 : decode cX1_shoes 80 = .ok (.iinc 4 1, 3) := dk_132 4 1 (dk_at dksX1_shoes_3 12 rfl rfl)
theorem dX1_shoes_83 : decode cX1_shoes 83 = .ok (.goto (-69), 3) := dk_167 255 187 (dk_at dksX1_shoes_3 15 rfl rfl)
theorem dX1_shoes_86 : decode cX1_shoes 86 = .ok (.iload_n 3, 1) := dk_29 (dk_at dksX1_shoes_3 18 rfl rfl)
theorem dX1_shoes_87 : decode cX1_shoes 87 = .ok (.ireturn, 1) := dk_172 (dk_at dksX1_shoes_3 19 rfl rfl)
def dkwX1_image_2 : List UInt8 := [181, 1, 72, 42, 42, 180, 0, 50, 181, 1, 75, 42, 42, 180, 0, 125, 181, 1, 78, 177]
abbrev dktX1_image_2 : List UInt8 := dkwX1_image_2 ++ []
def dkwX1_image_1 : List UInt8 := [181, 1, 66, 42, 42, 180, 0, 47, 184, 1, 62, 181, 1, 69, 42, 42, 180, 0, 34, 184, 1, 62]
abbrev dktX1_image_1 : List UInt8 := dkwX1_image_1 ++ dktX1_image_2
def dkwX1_image_0 : List UInt8 := [42, 187, 0, 37, 89, 42, 180, 0, 40, 183, 1, 59, 181, 0, 102, 42, 42, 180, 0, 44, 184, 1, 62]
abbrev dktX1_image_0 : List UInt8 := dkwX1_image_0 ++ dktX1_image_1
theorem dksX1_image_0 : cX1_image.data.toList.drop 0 = dktX1_image_0 := by decide +kernel
theorem dksX1_image_1 : cX1_image.data.toList.drop 23 = dktX1_image_1 := dk_seg dksX1_image_0 23 rfl rfl
theorem dksX1_image_2 : cX1_image.data.toList.drop 45 = dktX1_image_2 := dk_seg dksX1_image_1 22 rfl rfl
theorem dX1_image_0 : decode cX1_image 0 = .ok (.aload_n 0, 1) := dk_42 (dk_at dksX1_image_0 0 rfl rfl)
theorem dX1_image_1 : decode cX1_image 1 = .ok (.new 37, 3) := dk_187 0 37 (dk_at dksX1_image_0 1 rfl rfl)
theorem dX1_image_4 : decode cX1_image 4 = .ok (.dup, 1) := dk_89 (dk_at dksX1_image_0 4 rfl rfl)
theorem dX1_image_5 : decode cX1_image 5 = .ok (.aload_n 0, 1) := dk_42 (dk_at dksX1_image_0 5 rfl rfl)
theorem dX1_image_6 : decode cX1_image 6 = .ok (.getfield 40, 3) := dk_180 0 40 (dk_at dksX1_image_0 6 rfl rfl)
theorem dX1_image_9 : decode cX1_image 9 = .ok (.invokespecial 315, 3) := dk_183 1 59 (dk_at dksX1_image_0 9 rfl rfl)
theorem dX1_image_12 : decode cX1_image 12 = .ok (.putfield 102, 3) := dk_181 0 102 (dk_at dksX1_image_0 12 rfl rfl)
theorem dX1_image_15 : decode cX1_image 15 = .ok (.aload_n 0, 1) := dk_42 (dk_at dksX1_image_0 15 rfl rfl)
theorem dX1_image_16 : decode cX1_image 16 = .ok (.aload_n 0, 1) := dk_42 (dk_at dksX1_image_0 16 rfl rfl)
theorem dX1_image_17 : decode cX1_image 17 = .ok (.getfield 44, 3) := dk_180 0 44 (dk_at dksX1_image_0 17 rfl rfl)
theorem dX1_image_20 : decode cX1_image 20 = .ok (.invokestatic 318, 3) := dk_184 1 62 (dk_at dksX1_image_0 20 rfl rfl)
theorem dX1_image_23 : decode cX1_image 23 = .ok (.putfield 322, 3) := dk_181 1 66 (dk_at dksX1_image_1 0 rfl rfl)
theorem dX1_image_26 : decode cX1_image 26 = .ok (.aload_n 0, 1) := dk_42 (dk_at dksX1_image_1 3 rfl rfl)
theorem dX1_image_27 : decode cX1_image 27 = .ok (.aload_n 0, 1) := dk_42 (dk_at dksX1_image_1 4 rfl rfl)
theorem dX1_image_28 : decode cX1_image 28 = .ok (.getfield 47, 3) := dk_180 0 47 (dk_at dksX1_image_1 5 rfl rfl)
theorem dX1_image_31 : decode cX1_image 31 = .ok (.invokestatic 318, 3) := dk_184 1 62 (dk_at dksX1_image_1 8 rfl rfl)
theorem dX1_image_34 : decode cX1_image 34 = .ok (.putfield 325, 3) := dk_181 1 69 (dk_at dksX1_image_1 11 rfl rfl)
theorem dX1_image_37 : decode cX1_image 37 = .ok (.aload_n 0, 1) := dk_42 (dk_at dksX1_image_1 14 rfl rfl)
theorem dX1_image_38 : decode cX1_image 38 = .ok (.aload_n 0, 1) := dk_42 (dk_at dksX1_image_1 15 rfl rfl)
theorem dX1_image_39 : decode cX1_image 39 = .ok (.getfield 34, 3) := dk_180 0 34 (dk_at dksX1_image_1 16 rfl rfl)
theorem dX1_image_42 : decode cX1_image 42 = .ok (.invokestatic 318, 3) := dk_184 1 62 (dk_at dksX1_image_1 19 rfl rfl)
theorem dX1_image_45 : decode cX1_image 45 = .ok (.putfield 328, 3) := dk_181 1 72 (dk_at dksX1_image_2 0 rfl rfl)
theorem dX1_image_48 : decode cX1_image 48 = .ok (.aload_n 0, 1) := dk_42 (dk_at dksX1_image_2 3 rfl rfl)
theorem dX1_image_49 : decode cX1_image 49 = .ok (.aload_n 0, 1) := dk_42 (dk_at dksX1_image_2 4 rfl rfl)
theorem dX1_image_50 : decode cX1_image 50 = .ok (.getfield 50, 3) := dk_180 0 50 (dk_at dksX1_image_2 5 rfl rfl)
theorem dX1_image_53 : decode cX1_image 53 = .ok (.putfield 331, 3) := dk_181 1 75 (dk_at dksX1_image_2 8 rfl rfl)
theorem dX1_image_56 : decode cX1_image 56 = .ok (.aload_n 0, 1) := dk_42 (dk_at dksX1_image_2 11 rfl rfl)
theorem dX1_image_57 : decode cX1_image 57 = .ok (.aload_n 0, 1) := dk_42 (dk_at dksX1_image_2 12 rfl rfl)
theorem dX1_image_58 : decode cX1_image 58 = .ok (.getfield 125, 3) := dk_180 0 125 (dk_at dksX1_image_2 13 rfl rfl)
theorem dX1_image_61 : decode cX1_image 61 = .ok (.putfield 334, 3) := dk_181 1 78 (dk_at dksX1_image_2 16 rfl rfl)
theorem dX1_image_64 : decode cX1_image 64 = .ok (.return_, 1) := dk_177 (dk_at dksX1_image_2 19 rfl rfl)
def dkwX1_copy_1 : List UInt8 := [167, 255, 241, 43, 176]
abbrev dktX1_copy_1 : List UInt8 := dkwX1_copy_1 ++ []
def dkwX1_copy_0 : List UInt8 := [42, 190, 188, 10, 76, 3, 61, 28, 43, 190, 162, 0, 15, 43, 28, 42, 28, 46, 79, 132, 2, 1]
abbrev dktX1_copy_0 : List UInt8 := dkwX1_copy_0 ++ dktX1_copy_1
theorem dksX1_copy_0 : cX1_copy.data.toList.drop 0 = dktX1_copy_0 := by decide +kernel
theorem dksX1_copy_1 : cX1_copy.data.toList.drop 22 = dktX1_copy_1 := dk_seg dksX1_copy_0 22 rfl rfl
theorem dX1_copy_0 : decode cX1_copy 0 = .ok (.aload_n 0, 1) := dk_42 (dk_at dksX1_copy_0 0 rfl rfl)
theorem dX1_copy_1 : decode cX1_copy 1 = .ok (.arraylength, 1) := dk_190 (dk_at dksX1_copy_0 1 rfl rfl)
theorem dX1_copy_2 : decode cX1_copy 2 = .ok (.newarray .int, 2) := dk_188_10 (dk_at dksX1_copy_0 2 rfl rfl)
theorem dX1_copy_4 : decode cX1_copy 4 = .ok (.astore_n 1, 1) := dk_76 (dk_at dksX1_copy_0 4 rfl rfl)
theorem dX1_copy_5 : decode cX1_copy 5 = .ok (.iconst 0, 1) := dk_3 (dk_at dksX1_copy_0 5 rfl rfl)
theorem dX1_copy_6 : decode cX1_copy 6 = .ok (.istore_n 2, 1) := dk_61 (dk_at dksX1_copy_0 6 rfl rfl)
theorem dX1_copy_7 : decode cX1_copy 7 = .ok (.iload_n 2, 1) := dk_28 (dk_at dksX1_copy_0 7 rfl rfl)
theorem dX1_copy_8 : decode cX1_copy 8 = .ok (.aload_n 1, 1) := dk_43 (dk_at dksX1_copy_0 8 rfl rfl)
theorem dX1_copy_9 : decode cX1_copy 9 = .ok (.arraylength, 1) := dk_190 (dk_at dksX1_copy_0 9 rfl rfl)
theorem dX1_copy_10 : decode cX1_copy 10 = .ok (.if_icmp .ge 15, 3) := dk_162 0 15 (dk_at dksX1_copy_0 10 rfl rfl)
theorem dX1_copy_13 : decode cX1_copy 13 = .ok (.aload_n 1, 1) := dk_43 (dk_at dksX1_copy_0 13 rfl rfl)
theorem dX1_copy_14 : decode cX1_copy 14 = .ok (.iload_n 2, 1) := dk_28 (dk_at dksX1_copy_0 14 rfl rfl)
theorem dX1_copy_15 : decode cX1_copy 15 = .ok (.aload_n 0, 1) := dk_42 (dk_at dksX1_copy_0 15 rfl rfl)
theorem dX1_copy_16 : decode cX1_copy 16 = .ok (.iload_n 2, 1) := dk_28 (dk_at dksX1_copy_0 16 rfl rfl)
theorem dX1_copy_17 : decode cX1_copy 17 = .ok (.iaload, 1) := dk_46 (dk_at dksX1_copy_0 17 rfl rfl)
theorem dX1_copy_18 : decode cX1_copy 18 = .ok (.iastore, 1) := dk_79 (dk_at dksX1_copy_0 18 rfl rfl)
theorem dX1_copy_19 : decode cX1_copy 19 = .ok (.iinc 2 1, 3) := dk_132 2 1 (dk_at dksX1_copy_0 19 rfl rfl)
theorem dX1_copy_22 : decode cX1_copy 22 = .ok (.goto (-15), 3) := dk_167 255 241 (dk_at dksX1_copy_1 0 rfl rfl)
theorem dX1_copy_25 : decode cX1_copy 25 = .ok (.aload_n 1, 1) := dk_43 (dk_at dksX1_copy_1 3 rfl rfl)
theorem dX1_copy_26 : decode cX1_copy 26 = .ok (.areturn, 1) := dk_176 (dk_at dksX1_copy_1 4 rfl rfl)
def dkwX1_restore_3 : List UInt8 := [42, 42, 180, 1, 75, 181, 0, 50, 42, 42, 180, 1, 78, 181, 0, 125, 4, 172]
abbrev dktX1_restore_3 : List UInt8 := dkwX1_restore_3 ++ []
def dkwX1_restore_2 : List UInt8 := [27, 16, 8, 162, 0, 21, 42, 180, 0, 34, 27, 42, 180, 1, 72, 27, 46, 79, 132, 1, 1, 167, 255, 235]
abbrev dktX1_restore_2 : List UInt8 := dkwX1_restore_2 ++ dktX1_restore_3
def dkwX1_restore_1 : List UInt8 := [42, 42, 180, 1, 66, 184, 1, 62, 181, 0, 44, 42, 42, 180, 1, 69, 184, 1, 62, 181, 0, 47, 3, 60]
abbrev dktX1_restore_1 : List UInt8 := dkwX1_restore_1 ++ dktX1_restore_2
def dkwX1_restore_0 : List UInt8 := [42, 180, 0, 102, 199, 0, 5, 3, 172, 42, 187, 0, 37, 89, 42, 180, 0, 102, 183, 1, 59, 181, 0, 40]
abbrev dktX1_restore_0 : List UInt8 := dkwX1_restore_0 ++ dktX1_restore_1
theorem dksX1_restore_0 : cX1_restore.data.toList.drop 0 = dktX1_restore_0 := by decide +kernel
theorem dksX1_restore_1 : cX1_restore.data.toList.drop 24 = dktX1_restore_1 := dk_seg dksX1_restore_0 24 rfl rfl
theorem dksX1_restore_2 : cX1_restore.data.toList.drop 48 = dktX1_restore_2 := dk_seg dksX1_restore_1 24 rfl rfl
theorem dksX1_restore_3 : cX1_restore.data.toList.drop 72 = dktX1_restore_3 := dk_seg dksX1_restore_2 24 rfl rfl
theorem dX1_restore_0 : decode cX1_restore 0 = .ok (.aload_n 0, 1) := dk_42 (dk_at dksX1_restore_0 0 rfl rfl)
theorem dX1_restore_1 : decode cX1_restore 1 = .ok (.getfield 102, 3) := dk_180 0 102 (dk_at dksX1_restore_0 1 rfl rfl)
theorem dX1_restore_4 : decode cX1_restore 4 = .ok (.ifnonnull 5, 3) := dk_199 0 5 (dk_at dksX1_restore_0 4 rfl rfl)
theorem dX1_restore_7 : decode cX1_restore 7 = .ok (.iconst 0, 1) := dk_3 (dk_at dksX1_restore_0 7 rfl rfl)
theorem dX1_restore_8 : decode cX1_restore 8 = .ok (.ireturn, 1) := dk_172 (dk_at dksX1_restore_0 8 rfl rfl)
theorem dX1_restore_9 : decode cX1_restore 9 = .ok (.aload_n 0, 1) := dk_42 (dk_at dksX1_restore_0 9 rfl rfl)
theorem dX1_restore_10 : decode cX1_restore 10 = .ok (.new 37, 3) := dk_187 0 37 (dk_at dksX1_restore_0 10 rfl rfl)
theorem dX1_restore_13 : decode cX1_restore 13 = .ok (.dup, 1) := dk_89 (dk_at dksX1_restore_0 13 rfl rfl)
theorem dX1_restore_14 : decode cX1_restore 14 = .ok (.aload_n 0, 1) := dk_42 (dk_at dksX1_restore_0 14 rfl rfl)
theorem dX1_restore_15 : decode cX1_restore 15 = .ok (.getfield 102, 3) := dk_180 0 102 (dk_at dksX1_restore_0 15 rfl rfl)
theorem dX1_restore_18 : decode cX1_restore 18 = .ok (.invokespecial 315, 3) := dk_183 1 59 (dk_at dksX1_restore_0 18 rfl rfl)
theorem dX1_restore_21 : decode cX1_restore 21 = .ok (.putfield 40, 3) := dk_181 0 40 (dk_at dksX1_restore_0 21 rfl rfl)
theorem dX1_restore_24 : decode cX1_restore 24 = .ok (.aload_n 0, 1) := dk_42 (dk_at dksX1_restore_1 0 rfl rfl)
theorem dX1_restore_25 : decode cX1_restore 25 = .ok (.aload_n 0, 1) := dk_42 (dk_at dksX1_restore_1 1 rfl rfl)
theorem dX1_restore_26 : decode cX1_restore 26 = .ok (.getfield 322, 3) := dk_180 1 66 (dk_at dksX1_restore_1 2 rfl rfl)
theorem dX1_restore_29 : decode cX1_restore 29 = .ok (.invokestatic 318, 3) := dk_184 1 62 (dk_at dksX1_restore_1 5 rfl rfl)
theorem dX1_restore_32 : decode cX1_restore 32 = .ok (.putfield 44, 3) := dk_181 0 44 (dk_at dksX1_restore_1 8 rfl rfl)
theorem dX1_restore_35 : decode cX1_restore 35 = .ok (.aload_n 0, 1) := dk_42 (dk_at dksX1_restore_1 11 rfl rfl)
theorem dX1_restore_36 : decode cX1_restore 36 = .ok (.aload_n 0, 1) := dk_42 (dk_at dksX1_restore_1 12 rfl rfl)
theorem dX1_restore_37 : decode cX1_restore 37 = .ok (.getfield 325, 3) := dk_180 1 69 (dk_at dksX1_restore_1 13 rfl rfl)
theorem dX1_restore_40 : decode cX1_restore 40 = .ok (.invokestatic 318, 3) := dk_184 1 62 (dk_at dksX1_restore_1 16 rfl rfl)
theorem dX1_restore_43 : decode cX1_restore 43 = .ok (.putfield 47, 3) := dk_181 0 47 (dk_at dksX1_restore_1 19 rfl rfl)
theorem dX1_restore_46 : decode cX1_restore 46 = .ok (.iconst 0, 1) := dk_3 (dk_at dksX1_restore_1 22 rfl rfl)
theorem dX1_restore_47 : decode cX1_restore 47 = .ok (.istore_n 1, 1) := dk_60 (dk_at dksX1_restore_1 23 rfl rfl)
theorem dX1_restore_48 : decode cX1_restore 48 = .ok (.iload_n 1, 1) := dk_27 (dk_at dksX1_restore_2 0 rfl rfl)
theorem dX1_restore_49 : decode cX1_restore 49 = .ok (.bipush 8, 2) := dk_16 8 (dk_at dksX1_restore_2 1 rfl rfl)
theorem dX1_restore_51 : decode cX1_restore 51 = .ok (.if_icmp .ge 21, 3) := dk_162 0 21 (dk_at dksX1_restore_2 3 rfl rfl)
theorem dX1_restore_54 : decode cX1_restore 54 = .ok (.aload_n 0, 1) := dk_42 (dk_at dksX1_restore_2 6 rfl rfl)
theorem dX1_restore_55 : decode cX1_restore 55 = .ok (.getfield 34, 3) := dk_180 0 34 (dk_at dksX1_restore_2 7 rfl rfl)
theorem dX1_restore_58 : decode cX1_restore 58 = .ok (.iload_n 1, 1) := dk_27 (dk_at dksX1_restore_2 10 rfl rfl)
theorem dX1_restore_59 : decode cX1_restore 59 = .ok (.aload_n 0, 1) := dk_42 (dk_at dksX1_restore_2 11 rfl rfl)
theorem dX1_restore_60 : decode cX1_restore 60 = .ok (.getfield 328, 3) := dk_180 1 72 (dk_at dksX1_restore_2 12 rfl rfl)
theorem dX1_restore_63 : decode cX1_restore 63 = .ok (.iload_n 1, 1) := dk_27 (dk_at dksX1_restore_2 15 rfl rfl)
theorem dX1_restore_64 : decode cX1_restore 64 = .ok (.iaload, 1) := dk_46 (dk_at dksX1_restore_2 16 rfl rfl)
theorem dX1_restore_65 : decode cX1_restore 65 = .ok (.iastore, 1) := dk_79 (dk_at dksX1_restore_2 17 rfl rfl)
theorem dX1_restore_66 : decode cX1_restore 66 = .ok (.iinc 1 1, 3) := dk_132 1 1 (dk_at dksX1_restore_2 18 rfl rfl)
theorem dX1_restore_69 : decode cX1_restore 69 = .ok (.goto (-21), 3) := dk_167 255 235 (dk_at dksX1_restore_2 21 rfl rfl)
theorem dX1_restore_72 : decode cX1_restore 72 = .ok (.aload_n 0, 1) := dk_42 (dk_at dksX1_restore_3 0 rfl rfl)
theorem dX1_restore_73 : decode cX1_restore 73 = .ok (.aload_n 0, 1) := dk_42 (dk_at dksX1_restore_3 1 rfl rfl)
theorem dX1_restore_74 : decode cX1_restore 74 = .ok (.getfield 331, 3) := dk_180 1 75 (dk_at dksX1_restore_3 2 rfl rfl)
theorem dX1_restore_77 : decode cX1_restore 77 = .ok (.putfield 50, 3) := dk_181 0 50 (dk_at dksX1_restore_3 5 rfl rfl)
theorem dX1_restore_80 : decode cX1_restore 80 = .ok (.aload_n 0, 1) := dk_42 (dk_at dksX1_restore_3 8 rfl rfl)
theorem dX1_restore_81 : decode cX1_restore 81 = .ok (.aload_n 0, 1) := dk_42 (dk_at dksX1_restore_3 9 rfl rfl)
theorem dX1_restore_82 : decode cX1_restore 82 = .ok (.getfield 334, 3) := dk_180 1 78 (dk_at dksX1_restore_3 10 rfl rfl)
theorem dX1_restore_85 : decode cX1_restore 85 = .ok (.putfield 125, 3) := dk_181 0 125 (dk_at dksX1_restore_3 13 rfl rfl)
theorem dX1_restore_88 : decode cX1_restore 88 = .ok (.iconst 1, 1) := dk_4 (dk_at dksX1_restore_3 16 rfl rfl)
theorem dX1_restore_89 : decode cX1_restore 89 = .ok (.ireturn, 1) := dk_172 (dk_at dksX1_restore_3 17 rfl rfl)
def dkwX1_house_9 : List UInt8 := [181, 0, 102, 3, 172]
abbrev dktX1_house_9 : List UInt8 := dkwX1_house_9 ++ []
def dkwX1_house_8 : List UInt8 := [132, 3, 1, 167, 255, 211, 42, 182, 0, 93, 87, 42, 1, 181, 0, 96, 42, 1, 181, 0, 99, 42, 1]
abbrev dktX1_house_8 : List UInt8 := dkwX1_house_8 ++ dktX1_house_9
def dkwX1_house_7 : List UInt8 := [16, 24, 29, 104, 21, 4, 96, 42, 180, 0, 16, 180, 0, 91, 29, 46, 79, 132, 4, 1, 167, 255, 225]
abbrev dktX1_house_7 : List UInt8 := dkwX1_house_7 ++ dktX1_house_8
def dkwX1_house_6 : List UInt8 := [167, 255, 205, 3, 62, 29, 6, 162, 0, 46, 3, 54, 4, 21, 4, 16, 24, 162, 0, 30, 42, 180, 0, 47]
abbrev dktX1_house_6 : List UInt8 := dkwX1_house_6 ++ dktX1_house_7
def dkwX1_house_5 : List UInt8 := [42, 29, 182, 0, 81, 21, 4, 182, 0, 85, 3, 46, 79, 132, 4, 1, 167, 255, 222, 132, 3, 1]
abbrev dktX1_house_5 : List UInt8 := dkwX1_house_5 ++ dktX1_house_6
def dkwX1_house_4 : List UInt8 := [162, 0, 49, 3, 54, 4, 21, 4, 16, 24, 162, 0, 33, 42, 180, 0, 44, 16, 24, 29, 104, 21, 4, 96]
abbrev dktX1_house_4 : List UInt8 := dkwX1_house_4 ++ dktX1_house_5
def dkwX1_house_3 : List UInt8 := [79, 45, 180, 0, 74, 172, 42, 187, 0, 37, 89, 183, 0, 39, 181, 0, 40, 3, 62, 29, 42, 182, 0, 77]
abbrev dktX1_house_3 : List UInt8 := dkwX1_house_3 ++ dktX1_house_4
def dkwX1_house_2 : List UInt8 := [181, 0, 16, 167, 0, 27, 78, 42, 44, 180, 0, 71, 181, 0, 26, 42, 180, 0, 30, 3, 92, 46, 4, 96]
abbrev dktX1_house_2 : List UInt8 := dkwX1_house_2 ++ dktX1_house_3
def dkwX1_house_1 : List UInt8 := [181, 0, 53, 42, 2, 181, 0, 26, 187, 0, 60, 89, 42, 27, 183, 0, 62, 77, 42, 44, 182, 0, 65]
abbrev dktX1_house_1 : List UInt8 := dkwX1_house_1 ++ dktX1_house_2
def dkwX1_house_0 : List UInt8 := [27, 155, 0, 15, 27, 42, 180, 0, 53, 163, 0, 7, 4, 167, 0, 4, 3, 184, 0, 56, 42, 3]
abbrev dktX1_house_0 : List UInt8 := dkwX1_house_0 ++ dktX1_house_1
theorem dksX1_house_0 : cX1_house.data.toList.drop 0 = dktX1_house_0 := by decide +kernel
theorem dksX1_house_1 : cX1_house.data.toList.drop 22 = dktX1_house_1 := dk_seg dksX1_house_0 22 rfl rfl
theorem dksX1_house_2 : cX1_house.data.toList.drop 45 = dktX1_house_2 := dk_seg dksX1_house_1 23 rfl rfl
theorem dksX1_house_3 : cX1_house.data.toList.drop 69 = dktX1_house_3 := dk_seg dksX1_house_2 24 rfl rfl
theorem dksX1_house_4 : cX1_house.data.toList.drop 93 = dktX1_house_4 := dk_seg dksX1_house_3 24 rfl rfl
theorem dksX1_house_5 : cX1_house.data.toList.drop 117 = dktX1_house_5 := dk_seg dksX1_house_4 24 rfl rfl
theorem dksX1_house_6 : cX1_house.data.toList.drop 139 = dktX1_house_6 := dk_seg dksX1_house_5 22 rfl rfl
theorem dksX1_house_7 : cX1_house.data.toList.drop 163 = dktX1_house_7 := dk_seg dksX1_house_6 24 rfl rfl
theorem dksX1_house_8 : cX1_house.data.toList.drop 186 = dktX1_house_8 := dk_seg dksX1_house_7 23 rfl rfl
theorem dksX1_house_9 : cX1_house.data.toList.drop 209 = dktX1_house_9 := dk_seg dksX1_house_8 23 rfl rfl
theorem dX1_house_0 : decode cX1_house 0 = .ok (.iload_n 1, 1) := dk_27 (dk_at dksX1_house_0 0 rfl rfl)
theorem dX1_house_1 : decode cX1_house 1 = .ok (.ifCond .lt 15, 3) := dk_155 0 15 (dk_at dksX1_house_0 1 rfl rfl)
theorem dX1_house_4 : decode cX1_house 4 = .ok (.iload_n 1, 1) := dk_27 (dk_at dksX1_house_0 4 rfl rfl)
theorem dX1_house_5 : decode cX1_house 5 = .ok (.aload_n 0, 1) := dk_42 (dk_at dksX1_house_0 5 rfl rfl)
theorem dX1_house_6 : decode cX1_house 6 = .ok (.getfield 53, 3) := dk_180 0 53 (dk_at dksX1_house_0 6 rfl rfl)
theorem dX1_house_9 : decode cX1_house 9 = .ok (.if_icmp .gt 7, 3) := dk_163 0 7 (dk_at dksX1_house_0 9 rfl rfl)
theorem dX1_house_12 : decode cX1_house 12 = .ok (.iconst 1, 1) := dk_4 (dk_at dksX1_house_0 12 rfl rfl)
theorem dX1_house_13 : decode cX1_house 13 = .ok (.goto 4, 3) := dk_167 0 4 (dk_at dksX1_house_0 13 rfl rfl)
theorem dX1_house_16 : decode cX1_house 16 = .ok (.iconst 0, 1) := dk_3 (dk_at dksX1_house_0 16 rfl rfl)
theorem dX1_house_17 : decode cX1_house 17 = .ok (.invokestatic 56, 3) := dk_184 0 56 (dk_at dksX1_house_0 17 rfl rfl)
theorem dX1_house_20 : decode cX1_house 20 = .ok (.aload_n 0, 1) := dk_42 (dk_at dksX1_house_0 20 rfl rfl)
theorem dX1_house_21 : decode cX1_house 21 = .ok (.iconst 0, 1) := dk_3 (dk_at dksX1_house_0 21 rfl rfl)
theorem dX1_house_22 : decode cX1_house 22 = .ok (.putfield 53, 3) := dk_181 0 53 (dk_at dksX1_house_1 0 rfl rfl)
theorem dX1_house_25 : decode cX1_house 25 = .ok (.aload_n 0, 1) := dk_42 (dk_at dksX1_house_1 3 rfl rfl)
theorem dX1_house_26 : decode cX1_house 26 = .ok (.iconst (-1), 1) := dk_2 (dk_at dksX1_house_1 4 rfl rfl)
theorem dX1_house_27 : decode cX1_house 27 = .ok (.putfield 26, 3) := dk_181 0 26 (dk_at dksX1_house_1 5 rfl rfl)
theorem dX1_house_30 : decode cX1_house 30 = .ok (.new 60, 3) := dk_187 0 60 (dk_at dksX1_house_1 8 rfl rfl)
theorem dX1_house_33 : decode cX1_house 33 = .ok (.dup, 1) := dk_89 (dk_at dksX1_house_1 11 rfl rfl)
theorem dX1_house_34 : decode cX1_house 34 = .ok (.aload_n 0, 1) := dk_42 (dk_at dksX1_house_1 12 rfl rfl)
theorem dX1_house_35 : decode cX1_house 35 = .ok (.iload_n 1, 1) := dk_27 (dk_at dksX1_house_1 13 rfl rfl)
theorem dX1_house_36 : decode cX1_house 36 = .ok (.invokespecial 62, 3) := dk_183 0 62 (dk_at dksX1_house_1 14 rfl rfl)
theorem dX1_house_39 : decode cX1_house 39 = .ok (.astore_n 2, 1) := dk_77 (dk_at dksX1_house_1 17 rfl rfl)
theorem dX1_house_40 : decode cX1_house 40 = .ok (.aload_n 0, 1) := dk_42 (dk_at dksX1_house_1 18 rfl rfl)
theorem dX1_house_41 : decode cX1_house 41 = .ok (.aload_n 2, 1) := dk_44 (dk_at dksX1_house_1 19 rfl rfl)
theorem dX1_house_42 : decode cX1_house 42 = .ok (.invokevirtual 65, 3) := dk_182 0 65 (dk_at dksX1_house_1 20 rfl rfl)
theorem dX1_house_45 : decode cX1_house 45 = .ok (.putfield 16, 3) := dk_181 0 16 (dk_at dksX1_house_2 0 rfl rfl)
theorem dX1_house_48 : decode cX1_house 48 = .ok (.goto 27, 3) := dk_167 0 27 (dk_at dksX1_house_2 3 rfl rfl)
theorem dX1_house_51 : decode cX1_house 51 = .ok (.astore_n 3, 1) := dk_78 (dk_at dksX1_house_2 6 rfl rfl)
theorem dX1_house_52 : decode cX1_house 52 = .ok (.aload_n 0, 1) := dk_42 (dk_at dksX1_house_2 7 rfl rfl)
theorem dX1_house_53 : decode cX1_house 53 = .ok (.aload_n 2, 1) := dk_44 (dk_at dksX1_house_2 8 rfl rfl)
theorem dX1_house_54 : decode cX1_house 54 = .ok (.getfield 71, 3) := dk_180 0 71 (dk_at dksX1_house_2 9 rfl rfl)
theorem dX1_house_57 : decode cX1_house 57 = .ok (.putfield 26, 3) := dk_181 0 26 (dk_at dksX1_house_2 12 rfl rfl)
theorem dX1_house_60 : decode cX1_house 60 = .ok (.aload_n 0, 1) := dk_42 (dk_at dksX1_house_2 15 rfl rfl)
theorem dX1_house_61 : decode cX1_house 61 = .ok (.getfield 30, 3) := dk_180 0 30 (dk_at dksX1_house_2 16 rfl rfl)
theorem dX1_house_64 : decode cX1_house 64 = .ok (.iconst 0, 1) := dk_3 (dk_at dksX1_house_2 19 rfl rfl)
theorem dX1_house_65 : decode cX1_house 65 = .ok (.dup2, 1) := dk_92 (dk_at dksX1_house_2 20 rfl rfl)
theorem dX1_house_66 : decode cX1_house 66 = .ok (.iaload, 1) := dk_46 (dk_at dksX1_house_2 21 rfl rfl)
theorem dX1_house_67 : decode cX1_house 67 = .ok (.iconst 1, 1) := dk_4 (dk_at dksX1_house_2 22 rfl rfl)
theorem dX1_house_68 : decode cX1_house 68 = .ok (.iadd, 1) := dk_96 (dk_at dksX1_house_2 23 rfl rfl)
theorem dX1_house_69 : decode cX1_house 69 = .ok (.iastore, 1) := dk_79 (dk_at dksX1_house_3 0 rfl rfl)
theorem dX1_house_70 : decode cX1_house 70 = .ok (.aload_n 3, 1) := dk_45 (dk_at dksX1_house_3 1 rfl rfl)
theorem dX1_house_71 : decode cX1_house 71 = .ok (.getfield 74, 3) := dk_180 0 74 (dk_at dksX1_house_3 2 rfl rfl)
theorem dX1_house_74 : decode cX1_house 74 = .ok (.ireturn, 1) := dk_172 (dk_at dksX1_house_3 5 rfl rfl)
theorem dX1_house_75 : decode cX1_house 75 = .ok (.aload_n 0, 1) := dk_42 (dk_at dksX1_house_3 6 rfl rfl)
theorem dX1_house_76 : decode cX1_house 76 = .ok (.new 37, 3) := dk_187 0 37 (dk_at dksX1_house_3 7 rfl rfl)
theorem dX1_house_79 : decode cX1_house 79 = .ok (.dup, 1) := dk_89 (dk_at dksX1_house_3 10 rfl rfl)
theorem dX1_house_80 : decode cX1_house 80 = .ok (.invokespecial 39, 3) := dk_183 0 39 (dk_at dksX1_house_3 11 rfl rfl)
theorem dX1_house_83 : decode cX1_house 83 = .ok (.putfield 40, 3) := dk_181 0 40 (dk_at dksX1_house_3 14 rfl rfl)
theorem dX1_house_86 : decode cX1_house 86 = .ok (.iconst 0, 1) := dk_3 (dk_at dksX1_house_3 17 rfl rfl)
theorem dX1_house_87 : decode cX1_house 87 = .ok (.istore_n 3, 1) := dk_62 (dk_at dksX1_house_3 18 rfl rfl)
theorem dX1_house_88 : decode cX1_house 88 = .ok (.iload_n 3, 1) := dk_29 (dk_at dksX1_house_3 19 rfl rfl)
theorem dX1_house_89 : decode cX1_house 89 = .ok (.aload_n 0, 1) := dk_42 (dk_at dksX1_house_3 20 rfl rfl)
theorem dX1_house_90 : decode cX1_house 90 = .ok (.invokevirtual 77, 3) := dk_182 0 77 (dk_at dksX1_house_3 21 rfl rfl)
theorem dX1_house_93 : decode cX1_house 93 = .ok (.if_icmp .ge 49, 3) := dk_162 0 49 (dk_at dksX1_house_4 0 rfl rfl)
theorem dX1_house_96 : decode cX1_house 96 = .ok (.iconst 0, 1) := dk_3 (dk_at dksX1_house_4 3 rfl rfl)
theorem dX1_house_97 : decode cX1_house 97 = .ok (.istore 4, 2) := dk_54 4 (dk_at dksX1_house_4 4 rfl rfl)
theorem dX1_house_99 : decode cX1_house 99 = .ok (.iload 4, 2) := dk_21 4 (dk_at dksX1_house_4 6 rfl rfl)
theorem dX1_house_101 : decode cX1_house 101 = .ok (.bipush 24, 2) := dk_16 24 (dk_at dksX1_house_4 8 rfl rfl)
theorem dX1_house_103 : decode cX1_house 103 = .ok (.if_icmp .ge 33, 3) := dk_162 0 33 (dk_at dksX1_house_4 10 rfl rfl)
theorem dX1_house_106 : decode cX1_house 106 = .ok (.aload_n 0, 1) := dk_42 (dk_at dksX1_house_4 13 rfl rfl)
theorem dX1_house_107 : decode cX1_house 107 = .ok (.getfield 44, 3) := dk_180 0 44 (dk_at dksX1_house_4 14 rfl rfl)
theorem dX1_house_110 : decode cX1_house 110 = .ok (.bipush 24, 2) := dk_16 24 (dk_at dksX1_house_4 17 rfl rfl)
theorem dX1_house_112 : decode cX1_house 112 = .ok (.iload_n 3, 1) := dk_29 (dk_at dksX1_house_4 19 rfl rfl)
theorem dX1_house_113 : decode cX1_house 113 = .ok (.imul, 1) := dk_104 (dk_at dksX1_house_4 20 rfl rfl)
theorem dX1_house_114 : decode cX1_house 114 = .ok (.iload 4, 2) := dk_21 4 (dk_at dksX1_house_4 21 rfl rfl)
theorem dX1_house_116 : decode cX1_house 116 = .ok (.iadd, 1) := dk_96 (dk_at dksX1_house_4 23 rfl rfl)
theorem dX1_house_117 : decode cX1_house 117 = .ok (.aload_n 0, 1) := dk_42 (dk_at dksX1_house_5 0 rfl rfl)
theorem dX1_house_118 : decode cX1_house 118 = .ok (.iload_n 3, 1) := dk_29 (dk_at dksX1_house_5 1 rfl rfl)
theorem dX1_house_119 : decode cX1_house 119 = .ok (.invokevirtual 81, 3) := dk_182 0 81 (dk_at dksX1_house_5 2 rfl rfl)
theorem dX1_house_122 : decode cX1_house 122 = .ok (.iload 4, 2) := dk_21 4 (dk_at dksX1_house_5 5 rfl rfl)
theorem dX1_house_124 : decode cX1_house 124 = .ok (.invokevirtual 85, 3) := dk_182 0 85 (dk_at dksX1_house_5 7 rfl rfl)
theorem dX1_house_127 : decode cX1_house 127 = .ok (.iconst 0, 1) := dk_3 (dk_at dksX1_house_5 10 rfl rfl)
theorem dX1_house_128 : decode cX1_house 128 = .ok (.iaload, 1) := dk_46 (dk_at dksX1_house_5 11 rfl rfl)
theorem dX1_house_129 : decode cX1_house 129 = .ok (.iastore, 1) := dk_79 (dk_at dksX1_house_5 12 rfl rfl)
theorem dX1_house_130 : decode cX1_house 130 = .ok (.iinc 4 1, 3) := dk_132 4 1 (dk_at dksX1_house_5 13 rfl rfl)
theorem dX1_house_133 : decode cX1_house 133 = .ok (.goto (-34), 3) := dk_167 255 222 (dk_at dksX1_house_5 16 rfl rfl)
theorem dX1_house_136 : decode cX1_house 136 = .ok (.iinc 3 1, 3) := dk_132 3 1 (dk_at dksX1_house_5 19 rfl rfl)
theorem dX1_house_139 : decode cX1_house 139 = .ok (.goto (-51), 3) := dk_167 255 205 (dk_at dksX1_house_6 0 rfl rfl)
theorem dX1_house_142 : decode cX1_house 142 = .ok (.iconst 0, 1) := dk_3 (dk_at dksX1_house_6 3 rfl rfl)
theorem dX1_house_143 : decode cX1_house 143 = .ok (.istore_n 3, 1) := dk_62 (dk_at dksX1_house_6 4 rfl rfl)
theorem dX1_house_144 : decode cX1_house 144 = .ok (.iload_n 3, 1) := dk_29 (dk_at dksX1_house_6 5 rfl rfl)
theorem dX1_house_145 : decode cX1_house 145 = .ok (.iconst 3, 1) := dk_6 (dk_at dksX1_house_6 6 rfl rfl)
theorem dX1_house_146 : decode cX1_house 146 = .ok (.if_icmp .ge 46, 3) := dk_162 0 46 (dk_at dksX1_house_6 7 rfl rfl)
theorem dX1_house_149 : decode cX1_house 149 = .ok (.iconst 0, 1) := dk_3 (dk_at dksX1_house_6 10 rfl rfl)
theorem dX1_house_150 : decode cX1_house 150 = .ok (.istore 4, 2) := dk_54 4 (dk_at dksX1_house_6 11 rfl rfl)
theorem dX1_house_152 : decode cX1_house 152 = .ok (.iload 4, 2) := dk_21 4 (dk_at dksX1_house_6 13 rfl rfl)
theorem dX1_house_154 : decode cX1_house 154 = .ok (.bipush 24, 2) := dk_16 24 (dk_at dksX1_house_6 15 rfl rfl)
theorem dX1_house_156 : decode cX1_house 156 = .ok (.if_icmp .ge 30, 3) := dk_162 0 30 (dk_at dksX1_house_6 17 rfl rfl)
theorem dX1_house_159 : decode cX1_house 159 = .ok (.aload_n 0, 1) := dk_42 (dk_at dksX1_house_6 20 rfl rfl)
theorem dX1_house_160 : decode cX1_house 160 = .ok (.getfield 47, 3) := dk_180 0 47 (dk_at dksX1_house_6 21 rfl rfl)
theorem dX1_house_163 : decode cX1_house 163 = .ok (.bipush 24, 2) := dk_16 24 (dk_at dksX1_house_7 0 rfl rfl)
theorem dX1_house_165 : decode cX1_house 165 = .ok (.iload_n 3, 1) := dk_29 (dk_at dksX1_house_7 2 rfl rfl)
theorem dX1_house_166 : decode cX1_house 166 = .ok (.imul, 1) := dk_104 (dk_at dksX1_house_7 3 rfl rfl)
theorem dX1_house_167 : decode cX1_house 167 = .ok (.iload 4, 2) := dk_21 4 (dk_at dksX1_house_7 4 rfl rfl)
theorem dX1_house_169 : decode cX1_house 169 = .ok (.iadd, 1) := dk_96 (dk_at dksX1_house_7 6 rfl rfl)
theorem dX1_house_170 : decode cX1_house 170 = .ok (.aload_n 0, 1) := dk_42 (dk_at dksX1_house_7 7 rfl rfl)
theorem dX1_house_171 : decode cX1_house 171 = .ok (.getfield 16, 3) := dk_180 0 16 (dk_at dksX1_house_7 8 rfl rfl)
theorem dX1_house_174 : decode cX1_house 174 = .ok (.getfield 91, 3) := dk_180 0 91 (dk_at dksX1_house_7 11 rfl rfl)
theorem dX1_house_177 : decode cX1_house 177 = .ok (.iload_n 3, 1) := dk_29 (dk_at dksX1_house_7 14 rfl rfl)
theorem dX1_house_178 : decode cX1_house 178 = .ok (.iaload, 1) := dk_46 (dk_at dksX1_house_7 15 rfl rfl)
theorem dX1_house_179 : decode cX1_house 179 = .ok (.iastore, 1) := dk_79 (dk_at dksX1_house_7 16 rfl rfl)
theorem dX1_house_180 : decode cX1_house 180 = .ok (.iinc 4 1, 3) := dk_132 4 1 (dk_at dksX1_house_7 17 rfl rfl)
theorem dX1_house_183 : decode cX1_house 183 = .ok (.goto (-31), 3) := dk_167 255 225 (dk_at dksX1_house_7 20 rfl rfl)
theorem dX1_house_186 : decode cX1_house 186 = .ok (.iinc 3 1, 3) := dk_132 3 1 (dk_at dksX1_house_8 0 rfl rfl)
theorem dX1_house_189 : decode cX1_house 189 = .ok (.goto (-45), 3) := dk_167 255 211 (dk_at dksX1_house_8 3 rfl rfl)
theorem dX1_house_192 : decode cX1_house 192 = .ok (.aload_n 0, 1) := dk_42 (dk_at dksX1_house_8 6 rfl rfl)
theorem dX1_house_193 : decode cX1_house 193 = .ok (.invokevirtual 93, 3) := dk_182 0 93 (dk_at dksX1_house_8 7 rfl rfl)
theorem dX1_house_196 : decode cX1_house 196 = .ok (.pop, 1) := dk_87 (dk_at dksX1_house_8 10 rfl rfl)
theorem dX1_house_197 : decode cX1_house 197 = .ok (.aload_n 0, 1) := dk_42 (dk_at dksX1_house_8 11 rfl rfl)
theorem dX1_house_198 : decode cX1_house 198 = .ok (.aconst_null, 1) := dk_1 (dk_at dksX1_house_8 12 rfl rfl)
theorem dX1_house_199 : decode cX1_house 199 = .ok (.putfield 96, 3) := dk_181 0 96 (dk_at dksX1_house_8 13 rfl rfl)
theorem dX1_house_202 : decode cX1_house 202 = .ok (.aload_n 0, 1) := dk_42 (dk_at dksX1_house_8 16 rfl rfl)
theorem dX1_house_203 : decode cX1_house 203 = .ok (.aconst_null, 1) := dk_1 (dk_at dksX1_house_8 17 rfl rfl)
theorem dX1_house_204 : decode cX1_house 204 = .ok (.putfield 99, 3) := dk_181 0 99 (dk_at dksX1_house_8 18 rfl rfl)
theorem dX1_house_207 : decode cX1_house 207 = .ok (.aload_n 0, 1) := dk_42 (dk_at dksX1_house_8 21 rfl rfl)
theorem dX1_house_208 : decode cX1_house 208 = .ok (.aconst_null, 1) := dk_1 (dk_at dksX1_house_8 22 rfl rfl)
theorem dX1_house_209 : decode cX1_house 209 = .ok (.putfield 102, 3) := dk_181 0 102 (dk_at dksX1_house_9 0 rfl rfl)
theorem dX1_house_212 : decode cX1_house 212 = .ok (.iconst 0, 1) := dk_3 (dk_at dksX1_house_9 3 rfl rfl)
theorem dX1_house_213 : decode cX1_house 213 = .ok (.ireturn, 1) := dk_172 (dk_at dksX1_house_9 4 rfl rfl)
def dkwX1_right_0 : List UInt8 := [26, 154, 0, 11, 187, 0, 7, 89, 183, 0, 9, 191, 177]
abbrev dktX1_right_0 : List UInt8 := dkwX1_right_0 ++ []
theorem dksX1_right_0 : cX1_right.data.toList.drop 0 = dktX1_right_0 := by decide +kernel
theorem dX1_right_0 : decode cX1_right 0 = .ok (.iload_n 0, 1) := dk_26 (dk_at dksX1_right_0 0 rfl rfl)
theorem dX1_right_1 : decode cX1_right 1 = .ok (.ifCond .ne 11, 3) := dk_154 0 11 (dk_at dksX1_right_0 1 rfl rfl)
theorem dX1_right_4 : decode cX1_right 4 = .ok (.new 7, 3) := dk_187 0 7 (dk_at dksX1_right_0 4 rfl rfl)
theorem dX1_right_7 : decode cX1_right 7 = .ok (.dup, 1) := dk_89 (dk_at dksX1_right_0 7 rfl rfl)
theorem dX1_right_8 : decode cX1_right 8 = .ok (.invokespecial 9, 3) := dk_183 0 9 (dk_at dksX1_right_0 8 rfl rfl)
theorem dX1_right_11 : decode cX1_right 11 = .ok (.athrow, 1) := dk_191 (dk_at dksX1_right_0 11 rfl rfl)
theorem dX1_right_12 : decode cX1_right 12 = .ok (.return_, 1) := dk_177 (dk_at dksX1_right_0 12 rfl rfl)
def dkwX1_in_0 : List UInt8 := [26, 27, 161, 0, 12, 26, 28, 163, 0, 7, 4, 167, 0, 4, 3, 172]
abbrev dktX1_in_0 : List UInt8 := dkwX1_in_0 ++ []
theorem dksX1_in_0 : cX1_in.data.toList.drop 0 = dktX1_in_0 := by decide +kernel
theorem dX1_in_0 : decode cX1_in 0 = .ok (.iload_n 0, 1) := dk_26 (dk_at dksX1_in_0 0 rfl rfl)
theorem dX1_in_1 : decode cX1_in 1 = .ok (.iload_n 1, 1) := dk_27 (dk_at dksX1_in_0 1 rfl rfl)
theorem dX1_in_2 : decode cX1_in 2 = .ok (.if_icmp .lt 12, 3) := dk_161 0 12 (dk_at dksX1_in_0 2 rfl rfl)
theorem dX1_in_5 : decode cX1_in 5 = .ok (.iload_n 0, 1) := dk_26 (dk_at dksX1_in_0 5 rfl rfl)
theorem dX1_in_6 : decode cX1_in 6 = .ok (.iload_n 2, 1) := dk_28 (dk_at dksX1_in_0 6 rfl rfl)
theorem dX1_in_7 : decode cX1_in 7 = .ok (.if_icmp .gt 7, 3) := dk_163 0 7 (dk_at dksX1_in_0 7 rfl rfl)
theorem dX1_in_10 : decode cX1_in 10 = .ok (.iconst 1, 1) := dk_4 (dk_at dksX1_in_0 10 rfl rfl)
theorem dX1_in_11 : decode cX1_in 11 = .ok (.goto 4, 3) := dk_167 0 4 (dk_at dksX1_in_0 11 rfl rfl)
theorem dX1_in_14 : decode cX1_in 14 = .ok (.iconst 0, 1) := dk_3 (dk_at dksX1_in_0 14 rfl rfl)
theorem dX1_in_15 : decode cX1_in 15 = .ok (.ireturn, 1) := dk_172 (dk_at dksX1_in_0 15 rfl rfl)
def dkwX1_count_5 : List UInt8 := [184, 0, 128, 184, 0, 132, 42, 180, 0, 16, 180, 0, 135, 27, 16, 20, 100, 46, 172]
abbrev dktX1_count_5 : List UInt8 := dkwX1_count_5 ++ []
def dkwX1_count_4 : List UInt8 := [180, 0, 125, 172, 42, 180, 0, 53, 172, 42, 180, 0, 30, 27, 16, 8, 100, 46, 172, 27, 16, 20, 16, 23]
abbrev dktX1_count_4 : List UInt8 := dkwX1_count_4 ++ dktX1_count_5
def dkwX1_count_3 : List UInt8 := [180, 0, 16, 180, 0, 122, 172, 42, 180, 0, 40, 185, 0, 107, 1, 0, 172, 42, 180, 0, 50, 172, 42]
abbrev dktX1_count_3 : List UInt8 := dkwX1_count_3 ++ dktX1_count_4
def dkwX1_count_2 : List UInt8 := [42, 180, 0, 16, 180, 0, 116, 172, 42, 182, 0, 77, 172, 42, 180, 0, 16, 180, 0, 119, 172, 42]
abbrev dktX1_count_2 : List UInt8 := dkwX1_count_2 ++ dktX1_count_3
def dkwX1_count_1 : List UInt8 := [170, 0, 0, 0, 0, 0, 123, 0, 0, 0, 0, 0, 0, 0, 10, 0, 0, 0, 59, 0, 0, 0, 67, 0, 0, 0, 72, 0, 0, 0, 80, 0, 0, 0, 88, 0, 0, 0, 98, 0, 0, 0, 103, 0, 0, 0, 108, 0, 0, 0, 113, 0, 0, 0, 113, 0, 0, 0, 113]
abbrev dktX1_count_1 : List UInt8 := dkwX1_count_1 ++ dktX1_count_2
def dkwX1_count_0 : List UInt8 := [27]
abbrev dktX1_count_0 : List UInt8 := dkwX1_count_0 ++ dktX1_count_1
theorem dksX1_count_0 : cX1_count.data.toList.drop 0 = dktX1_count_0 := by decide +kernel
theorem dksX1_count_1 : cX1_count.data.toList.drop 1 = dktX1_count_1 := dk_seg dksX1_count_0 1 rfl rfl
theorem dksX1_count_2 : cX1_count.data.toList.drop 60 = dktX1_count_2 := dk_seg dksX1_count_1 59 rfl rfl
theorem dksX1_count_3 : cX1_count.data.toList.drop 82 = dktX1_count_3 := dk_seg dksX1_count_2 22 rfl rfl
theorem dksX1_count_4 : cX1_count.data.toList.drop 105 = dktX1_count_4 := dk_seg dksX1_count_3 23 rfl rfl
theorem dksX1_count_5 : cX1_count.data.toList.drop 129 = dktX1_count_5 := dk_seg dksX1_count_4 24 rfl rfl
theorem dX1_count_0 : decode cX1_count 0 = .ok (.iload_n 1, 1) := dk_27 (dk_at dksX1_count_0 0 rfl rfl)
theorem dX1_count_1 : decode cX1_count 1 = .ok (.tableswitch 123 0 10 #[59, 67, 72, 80, 88, 98, 103, 108, 113, 113, 113], 59) := by decide +kernel
theorem dX1_count_60 : decode cX1_count 60 = .ok (.aload_n 0, 1) := dk_42 (dk_at dksX1_count_2 0 rfl rfl)
theorem dX1_count_61 : decode cX1_count 61 = .ok (.getfield 16, 3) := dk_180 0 16 (dk_at dksX1_count_2 1 rfl rfl)
theorem dX1_count_64 : decode cX1_count 64 = .ok (.getfield 116, 3) := dk_180 0 116 (dk_at dksX1_count_2 4 rfl rfl)
theorem dX1_count_67 : decode cX1_count 67 = .ok (.ireturn, 1) := dk_172 (dk_at dksX1_count_2 7 rfl rfl)
theorem dX1_count_68 : decode cX1_count 68 = .ok (.aload_n 0, 1) := dk_42 (dk_at dksX1_count_2 8 rfl rfl)
theorem dX1_count_69 : decode cX1_count 69 = .ok (.invokevirtual 77, 3) := dk_182 0 77 (dk_at dksX1_count_2 9 rfl rfl)
theorem dX1_count_72 : decode cX1_count 72 = .ok (.ireturn, 1) := dk_172 (dk_at dksX1_count_2 12 rfl rfl)
theorem dX1_count_73 : decode cX1_count 73 = .ok (.aload_n 0, 1) := dk_42 (dk_at dksX1_count_2 13 rfl rfl)
theorem dX1_count_74 : decode cX1_count 74 = .ok (.getfield 16, 3) := dk_180 0 16 (dk_at dksX1_count_2 14 rfl rfl)
theorem dX1_count_77 : decode cX1_count 77 = .ok (.getfield 119, 3) := dk_180 0 119 (dk_at dksX1_count_2 17 rfl rfl)
theorem dX1_count_80 : decode cX1_count 80 = .ok (.ireturn, 1) := dk_172 (dk_at dksX1_count_2 20 rfl rfl)
theorem dX1_count_81 : decode cX1_count 81 = .ok (.aload_n 0, 1) := dk_42 (dk_at dksX1_count_2 21 rfl rfl)
theorem dX1_count_82 : decode cX1_count 82 = .ok (.getfield 16, 3) := dk_180 0 16 (dk_at dksX1_count_3 0 rfl rfl)
theorem dX1_count_85 : decode cX1_count 85 = .ok (.getfield 122, 3) := dk_180 0 122 (dk_at dksX1_count_3 3 rfl rfl)
theorem dX1_count_88 : decode cX1_count 88 = .ok (.ireturn, 1) := dk_172 (dk_at dksX1_count_3 6 rfl rfl)
theorem dX1_count_89 : decode cX1_count 89 = .ok (.aload_n 0, 1) := dk_42 (dk_at dksX1_count_3 7 rfl rfl)
theorem dX1_count_90 : decode cX1_count 90 = .ok (.getfield 40, 3) := dk_180 0 40 (dk_at dksX1_count_3 8 rfl rfl)
theorem dX1_count_93 : decode cX1_count 93 = .ok (.invokeinterface 107 1, 5) := by decide +kernel
theorem dX1_count_98 : decode cX1_count 98 = .ok (.ireturn, 1) := dk_172 (dk_at dksX1_count_3 16 rfl rfl)
theorem dX1_count_99 : decode cX1_count 99 = .ok (.aload_n 0, 1) := dk_42 (dk_at dksX1_count_3 17 rfl rfl)
theorem dX1_count_100 : decode cX1_count 100 = .ok (.getfield 50, 3) := dk_180 0 50 (dk_at dksX1_count_3 18 rfl rfl)
theorem dX1_count_103 : decode cX1_count 103 = .ok (.ireturn, 1) := dk_172 (dk_at dksX1_count_3 21 rfl rfl)
theorem dX1_count_104 : decode cX1_count 104 = .ok (.aload_n 0, 1) := dk_42 (dk_at dksX1_count_3 22 rfl rfl)
theorem dX1_count_105 : decode cX1_count 105 = .ok (.getfield 125, 3) := dk_180 0 125 (dk_at dksX1_count_4 0 rfl rfl)
theorem dX1_count_108 : decode cX1_count 108 = .ok (.ireturn, 1) := dk_172 (dk_at dksX1_count_4 3 rfl rfl)
theorem dX1_count_109 : decode cX1_count 109 = .ok (.aload_n 0, 1) := dk_42 (dk_at dksX1_count_4 4 rfl rfl)
theorem dX1_count_110 : decode cX1_count 110 = .ok (.getfield 53, 3) := dk_180 0 53 (dk_at dksX1_count_4 5 rfl rfl)
theorem dX1_count_113 : decode cX1_count 113 = .ok (.ireturn, 1) := dk_172 (dk_at dksX1_count_4 8 rfl rfl)
theorem dX1_count_114 : decode cX1_count 114 = .ok (.aload_n 0, 1) := dk_42 (dk_at dksX1_count_4 9 rfl rfl)
theorem dX1_count_115 : decode cX1_count 115 = .ok (.getfield 30, 3) := dk_180 0 30 (dk_at dksX1_count_4 10 rfl rfl)
theorem dX1_count_118 : decode cX1_count 118 = .ok (.iload_n 1, 1) := dk_27 (dk_at dksX1_count_4 13 rfl rfl)
theorem dX1_count_119 : decode cX1_count 119 = .ok (.bipush 8, 2) := dk_16 8 (dk_at dksX1_count_4 14 rfl rfl)
theorem dX1_count_121 : decode cX1_count 121 = .ok (.isub, 1) := dk_100 (dk_at dksX1_count_4 16 rfl rfl)
theorem dX1_count_122 : decode cX1_count 122 = .ok (.iaload, 1) := dk_46 (dk_at dksX1_count_4 17 rfl rfl)
theorem dX1_count_123 : decode cX1_count 123 = .ok (.ireturn, 1) := dk_172 (dk_at dksX1_count_4 18 rfl rfl)
theorem dX1_count_124 : decode cX1_count 124 = .ok (.iload_n 1, 1) := dk_27 (dk_at dksX1_count_4 19 rfl rfl)
theorem dX1_count_125 : decode cX1_count 125 = .ok (.bipush 20, 2) := dk_16 20 (dk_at dksX1_count_4 20 rfl rfl)
theorem dX1_count_127 : decode cX1_count 127 = .ok (.bipush 23, 2) := dk_16 23 (dk_at dksX1_count_4 22 rfl rfl)
theorem dX1_count_129 : decode cX1_count 129 = .ok (.invokestatic 128, 3) := dk_184 0 128 (dk_at dksX1_count_5 0 rfl rfl)
theorem dX1_count_132 : decode cX1_count 132 = .ok (.invokestatic 132, 3) := dk_184 0 132 (dk_at dksX1_count_5 3 rfl rfl)
theorem dX1_count_135 : decode cX1_count 135 = .ok (.aload_n 0, 1) := dk_42 (dk_at dksX1_count_5 6 rfl rfl)
theorem dX1_count_136 : decode cX1_count 136 = .ok (.getfield 16, 3) := dk_180 0 16 (dk_at dksX1_count_5 7 rfl rfl)
theorem dX1_count_139 : decode cX1_count 139 = .ok (.getfield 135, 3) := dk_180 0 135 (dk_at dksX1_count_5 10 rfl rfl)
theorem dX1_count_142 : decode cX1_count 142 = .ok (.iload_n 1, 1) := dk_27 (dk_at dksX1_count_5 13 rfl rfl)
theorem dX1_count_143 : decode cX1_count 143 = .ok (.bipush 20, 2) := dk_16 20 (dk_at dksX1_count_5 14 rfl rfl)
theorem dX1_count_145 : decode cX1_count 145 = .ok (.isub, 1) := dk_100 (dk_at dksX1_count_5 16 rfl rfl)
theorem dX1_count_146 : decode cX1_count 146 = .ok (.iaload, 1) := dk_46 (dk_at dksX1_count_5 17 rfl rfl)
theorem dX1_count_147 : decode cX1_count 147 = .ok (.ireturn, 1) := dk_172 (dk_at dksX1_count_5 18 rfl rfl)
def dkwX1_found_0 : List UInt8 := [26, 154, 0, 11, 187, 0, 1, 89, 183, 0, 3, 191, 177]
abbrev dktX1_found_0 : List UInt8 := dkwX1_found_0 ++ []
theorem dksX1_found_0 : cX1_found.data.toList.drop 0 = dktX1_found_0 := by decide +kernel
theorem dX1_found_0 : decode cX1_found 0 = .ok (.iload_n 0, 1) := dk_26 (dk_at dksX1_found_0 0 rfl rfl)
theorem dX1_found_1 : decode cX1_found 1 = .ok (.ifCond .ne 11, 3) := dk_154 0 11 (dk_at dksX1_found_0 1 rfl rfl)
theorem dX1_found_4 : decode cX1_found 4 = .ok (.new 1, 3) := dk_187 0 1 (dk_at dksX1_found_0 4 rfl rfl)
theorem dX1_found_7 : decode cX1_found 7 = .ok (.dup, 1) := dk_89 (dk_at dksX1_found_0 7 rfl rfl)
theorem dX1_found_8 : decode cX1_found 8 = .ok (.invokespecial 3, 3) := dk_183 0 3 (dk_at dksX1_found_0 8 rfl rfl)
theorem dX1_found_11 : decode cX1_found 11 = .ok (.athrow, 1) := dk_191 (dk_at dksX1_found_0 11 rfl rfl)
theorem dX1_found_12 : decode cX1_found 12 = .ok (.return_, 1) := dk_177 (dk_at dksX1_found_0 12 rfl rfl)
def dkwX1_room_1 : List UInt8 := [167, 0, 11, 42, 180, 0, 16, 27, 182, 0, 148, 172]
abbrev dktX1_room_1 : List UInt8 := dkwX1_room_1 ++ []
def dkwX1_room_0 : List UInt8 := [42, 27, 182, 0, 138, 28, 184, 0, 142, 28, 154, 0, 15, 42, 180, 0, 16, 180, 0, 145, 27, 46]
abbrev dktX1_room_0 : List UInt8 := dkwX1_room_0 ++ dktX1_room_1
theorem dksX1_room_0 : cX1_room.data.toList.drop 0 = dktX1_room_0 := by decide +kernel
theorem dksX1_room_1 : cX1_room.data.toList.drop 22 = dktX1_room_1 := dk_seg dksX1_room_0 22 rfl rfl
theorem dX1_room_0 : decode cX1_room 0 = .ok (.aload_n 0, 1) := dk_42 (dk_at dksX1_room_0 0 rfl rfl)
theorem dX1_room_1 : decode cX1_room 1 = .ok (.iload_n 1, 1) := dk_27 (dk_at dksX1_room_0 1 rfl rfl)
theorem dX1_room_2 : decode cX1_room 2 = .ok (.invokevirtual 138, 3) := dk_182 0 138 (dk_at dksX1_room_0 2 rfl rfl)
theorem dX1_room_5 : decode cX1_room 5 = .ok (.iload_n 2, 1) := dk_28 (dk_at dksX1_room_0 5 rfl rfl)
theorem dX1_room_6 : decode cX1_room 6 = .ok (.invokestatic 142, 3) := dk_184 0 142 (dk_at dksX1_room_0 6 rfl rfl)
theorem dX1_room_9 : decode cX1_room 9 = .ok (.iload_n 2, 1) := dk_28 (dk_at dksX1_room_0 9 rfl rfl)
theorem dX1_room_10 : decode cX1_room 10 = .ok (.ifCond .ne 15, 3) := dk_154 0 15 (dk_at dksX1_room_0 10 rfl rfl)
theorem dX1_room_13 : decode cX1_room 13 = .ok (.aload_n 0, 1) := dk_42 (dk_at dksX1_room_0 13 rfl rfl)
theorem dX1_room_14 : decode cX1_room 14 = .ok (.getfield 16, 3) := dk_180 0 16 (dk_at dksX1_room_0 14 rfl rfl)
theorem dX1_room_17 : decode cX1_room 17 = .ok (.getfield 145, 3) := dk_180 0 145 (dk_at dksX1_room_0 17 rfl rfl)
theorem dX1_room_20 : decode cX1_room 20 = .ok (.iload_n 1, 1) := dk_27 (dk_at dksX1_room_0 20 rfl rfl)
theorem dX1_room_21 : decode cX1_room 21 = .ok (.iaload, 1) := dk_46 (dk_at dksX1_room_0 21 rfl rfl)
theorem dX1_room_22 : decode cX1_room 22 = .ok (.goto 11, 3) := dk_167 0 11 (dk_at dksX1_room_1 0 rfl rfl)
theorem dX1_room_25 : decode cX1_room 25 = .ok (.aload_n 0, 1) := dk_42 (dk_at dksX1_room_1 3 rfl rfl)
theorem dX1_room_26 : decode cX1_room 26 = .ok (.getfield 16, 3) := dk_180 0 16 (dk_at dksX1_room_1 4 rfl rfl)
theorem dX1_room_29 : decode cX1_room 29 = .ok (.iload_n 1, 1) := dk_27 (dk_at dksX1_room_1 7 rfl rfl)
theorem dX1_room_30 : decode cX1_room 30 = .ok (.invokevirtual 148, 3) := dk_182 0 148 (dk_at dksX1_room_1 8 rfl rfl)
theorem dX1_room_33 : decode cX1_room 33 = .ok (.ireturn, 1) := dk_172 (dk_at dksX1_room_1 11 rfl rfl)
def dkwX1_aRoom_0 : List UInt8 := [27, 3, 42, 180, 0, 16, 180, 0, 116, 4, 100, 184, 0, 128, 184, 0, 132, 177]
abbrev dktX1_aRoom_0 : List UInt8 := dkwX1_aRoom_0 ++ []
theorem dksX1_aRoom_0 : cX1_aRoom.data.toList.drop 0 = dktX1_aRoom_0 := by decide +kernel
theorem dX1_aRoom_0 : decode cX1_aRoom 0 = .ok (.iload_n 1, 1) := dk_27 (dk_at dksX1_aRoom_0 0 rfl rfl)
theorem dX1_aRoom_1 : decode cX1_aRoom 1 = .ok (.iconst 0, 1) := dk_3 (dk_at dksX1_aRoom_0 1 rfl rfl)
theorem dX1_aRoom_2 : decode cX1_aRoom 2 = .ok (.aload_n 0, 1) := dk_42 (dk_at dksX1_aRoom_0 2 rfl rfl)
theorem dX1_aRoom_3 : decode cX1_aRoom 3 = .ok (.getfield 16, 3) := dk_180 0 16 (dk_at dksX1_aRoom_0 3 rfl rfl)
theorem dX1_aRoom_6 : decode cX1_aRoom 6 = .ok (.getfield 116, 3) := dk_180 0 116 (dk_at dksX1_aRoom_0 6 rfl rfl)
theorem dX1_aRoom_9 : decode cX1_aRoom 9 = .ok (.iconst 1, 1) := dk_4 (dk_at dksX1_aRoom_0 9 rfl rfl)
theorem dX1_aRoom_10 : decode cX1_aRoom 10 = .ok (.isub, 1) := dk_100 (dk_at dksX1_aRoom_0 10 rfl rfl)
theorem dX1_aRoom_11 : decode cX1_aRoom 11 = .ok (.invokestatic 128, 3) := dk_184 0 128 (dk_at dksX1_aRoom_0 11 rfl rfl)
theorem dX1_aRoom_14 : decode cX1_aRoom 14 = .ok (.invokestatic 132, 3) := dk_184 0 132 (dk_at dksX1_aRoom_0 14 rfl rfl)
theorem dX1_aRoom_17 : decode cX1_aRoom 17 = .ok (.return_, 1) := dk_177 (dk_at dksX1_aRoom_0 17 rfl rfl)
def dkwX1_oneOfTwo_0 : List UInt8 := [26, 153, 0, 8, 26, 4, 160, 0, 7, 4, 167, 0, 4, 3, 184, 0, 132, 177]
abbrev dktX1_oneOfTwo_0 : List UInt8 := dkwX1_oneOfTwo_0 ++ []
theorem dksX1_oneOfTwo_0 : cX1_oneOfTwo.data.toList.drop 0 = dktX1_oneOfTwo_0 := by decide +kernel
theorem dX1_oneOfTwo_0 : decode cX1_oneOfTwo 0 = .ok (.iload_n 0, 1) := dk_26 (dk_at dksX1_oneOfTwo_0 0 rfl rfl)
theorem dX1_oneOfTwo_1 : decode cX1_oneOfTwo 1 = .ok (.ifCond .eq 8, 3) := dk_153 0 8 (dk_at dksX1_oneOfTwo_0 1 rfl rfl)
theorem dX1_oneOfTwo_4 : decode cX1_oneOfTwo 4 = .ok (.iload_n 0, 1) := dk_26 (dk_at dksX1_oneOfTwo_0 4 rfl rfl)
theorem dX1_oneOfTwo_5 : decode cX1_oneOfTwo 5 = .ok (.iconst 1, 1) := dk_4 (dk_at dksX1_oneOfTwo_0 5 rfl rfl)
theorem dX1_oneOfTwo_6 : decode cX1_oneOfTwo 6 = .ok (.if_icmp .ne 7, 3) := dk_160 0 7 (dk_at dksX1_oneOfTwo_0 6 rfl rfl)
theorem dX1_oneOfTwo_9 : decode cX1_oneOfTwo 9 = .ok (.iconst 1, 1) := dk_4 (dk_at dksX1_oneOfTwo_0 9 rfl rfl)
theorem dX1_oneOfTwo_10 : decode cX1_oneOfTwo 10 = .ok (.goto 4, 3) := dk_167 0 4 (dk_at dksX1_oneOfTwo_0 10 rfl rfl)
theorem dX1_oneOfTwo_13 : decode cX1_oneOfTwo 13 = .ok (.iconst 0, 1) := dk_3 (dk_at dksX1_oneOfTwo_0 13 rfl rfl)
theorem dX1_oneOfTwo_14 : decode cX1_oneOfTwo 14 = .ok (.invokestatic 132, 3) := dk_184 0 132 (dk_at dksX1_oneOfTwo_0 14 rfl rfl)
theorem dX1_oneOfTwo_17 : decode cX1_oneOfTwo 17 = .ok (.return_, 1) := dk_177 (dk_at dksX1_oneOfTwo_0 17 rfl rfl)
def dkwX1_lodger_1 : List UInt8 := [180, 0, 172, 167, 0, 9, 42, 27, 28, 182, 0, 166, 172]
abbrev dktX1_lodger_1 : List UInt8 := dkwX1_lodger_1 ++ []
def dkwX1_lodger_0 : List UInt8 := [42, 27, 182, 0, 169, 28, 3, 5, 184, 0, 128, 184, 0, 132, 28, 154, 0, 14, 42, 27, 182, 0, 81]
abbrev dktX1_lodger_0 : List UInt8 := dkwX1_lodger_0 ++ dktX1_lodger_1
theorem dksX1_lodger_0 : cX1_lodger.data.toList.drop 0 = dktX1_lodger_0 := by decide +kernel
theorem dksX1_lodger_1 : cX1_lodger.data.toList.drop 23 = dktX1_lodger_1 := dk_seg dksX1_lodger_0 23 rfl rfl
theorem dX1_lodger_0 : decode cX1_lodger 0 = .ok (.aload_n 0, 1) := dk_42 (dk_at dksX1_lodger_0 0 rfl rfl)
theorem dX1_lodger_1 : decode cX1_lodger 1 = .ok (.iload_n 1, 1) := dk_27 (dk_at dksX1_lodger_0 1 rfl rfl)
theorem dX1_lodger_2 : decode cX1_lodger 2 = .ok (.invokevirtual 169, 3) := dk_182 0 169 (dk_at dksX1_lodger_0 2 rfl rfl)
theorem dX1_lodger_5 : decode cX1_lodger 5 = .ok (.iload_n 2, 1) := dk_28 (dk_at dksX1_lodger_0 5 rfl rfl)
theorem dX1_lodger_6 : decode cX1_lodger 6 = .ok (.iconst 0, 1) := dk_3 (dk_at dksX1_lodger_0 6 rfl rfl)
theorem dX1_lodger_7 : decode cX1_lodger 7 = .ok (.iconst 2, 1) := dk_5 (dk_at dksX1_lodger_0 7 rfl rfl)
theorem dX1_lodger_8 : decode cX1_lodger 8 = .ok (.invokestatic 128, 3) := dk_184 0 128 (dk_at dksX1_lodger_0 8 rfl rfl)
theorem dX1_lodger_11 : decode cX1_lodger 11 = .ok (.invokestatic 132, 3) := dk_184 0 132 (dk_at dksX1_lodger_0 11 rfl rfl)
theorem dX1_lodger_14 : decode cX1_lodger 14 = .ok (.iload_n 2, 1) := dk_28 (dk_at dksX1_lodger_0 14 rfl rfl)
theorem dX1_lodger_15 : decode cX1_lodger 15 = .ok (.ifCond .ne 14, 3) := dk_154 0 14 (dk_at dksX1_lodger_0 15 rfl rfl)
theorem dX1_lodger_18 : decode cX1_lodger 18 = .ok (.aload_n 0, 1) := dk_42 (dk_at dksX1_lodger_0 18 rfl rfl)
theorem dX1_lodger_19 : decode cX1_lodger 19 = .ok (.iload_n 1, 1) := dk_27 (dk_at dksX1_lodger_0 19 rfl rfl)
theorem dX1_lodger_20 : decode cX1_lodger 20 = .ok (.invokevirtual 81, 3) := dk_182 0 81 (dk_at dksX1_lodger_0 20 rfl rfl)
theorem dX1_lodger_23 : decode cX1_lodger 23 = .ok (.getfield 172, 3) := dk_180 0 172 (dk_at dksX1_lodger_1 0 rfl rfl)
theorem dX1_lodger_26 : decode cX1_lodger 26 = .ok (.goto 9, 3) := dk_167 0 9 (dk_at dksX1_lodger_1 3 rfl rfl)
theorem dX1_lodger_29 : decode cX1_lodger 29 = .ok (.aload_n 0, 1) := dk_42 (dk_at dksX1_lodger_1 6 rfl rfl)
theorem dX1_lodger_30 : decode cX1_lodger 30 = .ok (.iload_n 1, 1) := dk_27 (dk_at dksX1_lodger_1 7 rfl rfl)
theorem dX1_lodger_31 : decode cX1_lodger 31 = .ok (.iload_n 2, 1) := dk_28 (dk_at dksX1_lodger_1 8 rfl rfl)
theorem dX1_lodger_32 : decode cX1_lodger 32 = .ok (.invokevirtual 166, 3) := dk_182 0 166 (dk_at dksX1_lodger_1 9 rfl rfl)
theorem dX1_lodger_35 : decode cX1_lodger 35 = .ok (.ireturn, 1) := dk_172 (dk_at dksX1_lodger_1 12 rfl rfl)
def dkwX1_aLodger_0 : List UInt8 := [27, 3, 42, 182, 0, 77, 4, 100, 184, 0, 128, 184, 0, 132, 177]
abbrev dktX1_aLodger_0 : List UInt8 := dkwX1_aLodger_0 ++ []
theorem dksX1_aLodger_0 : cX1_aLodger.data.toList.drop 0 = dktX1_aLodger_0 := by decide +kernel
theorem dX1_aLodger_0 : decode cX1_aLodger 0 = .ok (.iload_n 1, 1) := dk_27 (dk_at dksX1_aLodger_0 0 rfl rfl)
theorem dX1_aLodger_1 : decode cX1_aLodger 1 = .ok (.iconst 0, 1) := dk_3 (dk_at dksX1_aLodger_0 1 rfl rfl)
theorem dX1_aLodger_2 : decode cX1_aLodger 2 = .ok (.aload_n 0, 1) := dk_42 (dk_at dksX1_aLodger_0 2 rfl rfl)
theorem dX1_aLodger_3 : decode cX1_aLodger 3 = .ok (.invokevirtual 77, 3) := dk_182 0 77 (dk_at dksX1_aLodger_0 3 rfl rfl)
theorem dX1_aLodger_6 : decode cX1_aLodger 6 = .ok (.iconst 1, 1) := dk_4 (dk_at dksX1_aLodger_0 6 rfl rfl)
theorem dX1_aLodger_7 : decode cX1_aLodger 7 = .ok (.isub, 1) := dk_100 (dk_at dksX1_aLodger_0 7 rfl rfl)
theorem dX1_aLodger_8 : decode cX1_aLodger 8 = .ok (.invokestatic 128, 3) := dk_184 0 128 (dk_at dksX1_aLodger_0 8 rfl rfl)
theorem dX1_aLodger_11 : decode cX1_aLodger 11 = .ok (.invokestatic 132, 3) := dk_184 0 132 (dk_at dksX1_aLodger_0 11 rfl rfl)
theorem dX1_aLodger_14 : decode cX1_aLodger 14 = .ok (.return_, 1) := dk_177 (dk_at dksX1_aLodger_0 14 rfl rfl)
def dkwX1_may_2 : List UInt8 := [172]
abbrev dktX1_may_2 : List UInt8 := dkwX1_may_2 ++ []
def dkwX1_may_1 : List UInt8 := [160, 0, 7, 25, 4, 190, 172, 29, 3, 25, 4, 190, 4, 100, 184, 0, 128, 184, 0, 132, 25, 4, 29, 46]
abbrev dktX1_may_1 : List UInt8 := dkwX1_may_1 ++ dktX1_may_2
def dkwX1_may_0 : List UInt8 := [42, 27, 182, 0, 169, 28, 184, 0, 175, 42, 27, 182, 0, 81, 28, 182, 0, 85, 58, 4, 29, 2]
abbrev dktX1_may_0 : List UInt8 := dkwX1_may_0 ++ dktX1_may_1
theorem dksX1_may_0 : cX1_may.data.toList.drop 0 = dktX1_may_0 := by decide +kernel
theorem dksX1_may_1 : cX1_may.data.toList.drop 22 = dktX1_may_1 := dk_seg dksX1_may_0 22 rfl rfl
theorem dksX1_may_2 : cX1_may.data.toList.drop 46 = dktX1_may_2 := dk_seg dksX1_may_1 24 rfl rfl
theorem dX1_may_0 : decode cX1_may 0 = .ok (.aload_n 0, 1) := dk_42 (dk_at dksX1_may_0 0 rfl rfl)
theorem dX1_may_1 : decode cX1_may 1 = .ok (.iload_n 1, 1) := dk_27 (dk_at dksX1_may_0 1 rfl rfl)
theorem dX1_may_2 : decode cX1_may 2 = .ok (.invokevirtual 169, 3) := dk_182 0 169 (dk_at dksX1_may_0 2 rfl rfl)
theorem dX1_may_5 : decode cX1_may 5 = .ok (.iload_n 2, 1) := dk_28 (dk_at dksX1_may_0 5 rfl rfl)
theorem dX1_may_6 : decode cX1_may 6 = .ok (.invokestatic 175, 3) := dk_184 0 175 (dk_at dksX1_may_0 6 rfl rfl)
theorem dX1_may_9 : decode cX1_may 9 = .ok (.aload_n 0, 1) := dk_42 (dk_at dksX1_may_0 9 rfl rfl)
theorem dX1_may_10 : decode cX1_may 10 = .ok (.iload_n 1, 1) := dk_27 (dk_at dksX1_may_0 10 rfl rfl)
theorem dX1_may_11 : decode cX1_may 11 = .ok (.invokevirtual 81, 3) := dk_182 0 81 (dk_at dksX1_may_0 11 rfl rfl)
theorem dX1_may_14 : decode cX1_may 14 = .ok (.iload_n 2, 1) := dk_28 (dk_at dksX1_may_0 14 rfl rfl)
theorem dX1_may_15 : decode cX1_may 15 = .ok (.invokevirtual 85, 3) := dk_182 0 85 (dk_at dksX1_may_0 15 rfl rfl)
theorem dX1_may_18 : decode cX1_may 18 = .ok (.astore 4, 2) := dk_58 4 (dk_at dksX1_may_0 18 rfl rfl)
theorem dX1_may_20 : decode cX1_may 20 = .ok (.iload_n 3, 1) := dk_29 (dk_at dksX1_may_0 20 rfl rfl)
theorem dX1_may_21 : decode cX1_may 21 = .ok (.iconst (-1), 1) := dk_2 (dk_at dksX1_may_0 21 rfl rfl)
theorem dX1_may_22 : decode cX1_may 22 = .ok (.if_icmp .ne 7, 3) := dk_160 0 7 (dk_at dksX1_may_1 0 rfl rfl)
theorem dX1_may_25 : decode cX1_may 25 = .ok (.aload 4, 2) := dk_25 4 (dk_at dksX1_may_1 3 rfl rfl)
theorem dX1_may_27 : decode cX1_may 27 = .ok (.arraylength, 1) := dk_190 (dk_at dksX1_may_1 5 rfl rfl)
theorem dX1_may_28 : decode cX1_may 28 = .ok (.ireturn, 1) := dk_172 (dk_at dksX1_may_1 6 rfl rfl)
theorem dX1_may_29 : decode cX1_may 29 = .ok (.iload_n 3, 1) := dk_29 (dk_at dksX1_may_1 7 rfl rfl)
theorem dX1_may_30 : decode cX1_may 30 = .ok (.iconst 0, 1) := dk_3 (dk_at dksX1_may_1 8 rfl rfl)
theorem dX1_may_31 : decode cX1_may 31 = .ok (.aload 4, 2) := dk_25 4 (dk_at dksX1_may_1 9 rfl rfl)
theorem dX1_may_33 : decode cX1_may 33 = .ok (.arraylength, 1) := dk_190 (dk_at dksX1_may_1 11 rfl rfl)
theorem dX1_may_34 : decode cX1_may 34 = .ok (.iconst 1, 1) := dk_4 (dk_at dksX1_may_1 12 rfl rfl)
theorem dX1_may_35 : decode cX1_may 35 = .ok (.isub, 1) := dk_100 (dk_at dksX1_may_1 13 rfl rfl)
theorem dX1_may_36 : decode cX1_may 36 = .ok (.invokestatic 128, 3) := dk_184 0 128 (dk_at dksX1_may_1 14 rfl rfl)
theorem dX1_may_39 : decode cX1_may 39 = .ok (.invokestatic 132, 3) := dk_184 0 132 (dk_at dksX1_may_1 17 rfl rfl)
theorem dX1_may_42 : decode cX1_may 42 = .ok (.aload 4, 2) := dk_25 4 (dk_at dksX1_may_1 20 rfl rfl)
theorem dX1_may_44 : decode cX1_may 44 = .ok (.iload_n 3, 1) := dk_29 (dk_at dksX1_may_1 22 rfl rfl)
theorem dX1_may_45 : decode cX1_may 45 = .ok (.iaload, 1) := dk_46 (dk_at dksX1_may_1 23 rfl rfl)
theorem dX1_may_46 : decode cX1_may 46 = .ok (.ireturn, 1) := dk_172 (dk_at dksX1_may_2 0 rfl rfl)
def dkwX1_anHour_0 : List UInt8 := [26, 3, 16, 23, 184, 0, 128, 184, 0, 132, 177]
abbrev dktX1_anHour_0 : List UInt8 := dkwX1_anHour_0 ++ []
theorem dksX1_anHour_0 : cX1_anHour.data.toList.drop 0 = dktX1_anHour_0 := by decide +kernel
theorem dX1_anHour_0 : decode cX1_anHour 0 = .ok (.iload_n 0, 1) := dk_26 (dk_at dksX1_anHour_0 0 rfl rfl)
theorem dX1_anHour_1 : decode cX1_anHour 1 = .ok (.iconst 0, 1) := dk_3 (dk_at dksX1_anHour_0 1 rfl rfl)
theorem dX1_anHour_2 : decode cX1_anHour 2 = .ok (.bipush 23, 2) := dk_16 23 (dk_at dksX1_anHour_0 2 rfl rfl)
theorem dX1_anHour_4 : decode cX1_anHour 4 = .ok (.invokestatic 128, 3) := dk_184 0 128 (dk_at dksX1_anHour_0 4 rfl rfl)
theorem dX1_anHour_7 : decode cX1_anHour 7 = .ok (.invokestatic 132, 3) := dk_184 0 132 (dk_at dksX1_anHour_0 7 rfl rfl)
theorem dX1_anHour_10 : decode cX1_anHour 10 = .ok (.return_, 1) := dk_177 (dk_at dksX1_anHour_0 10 rfl rfl)
def dkwX1_says_2 : List UInt8 := [159, 0, 7, 4, 167, 0, 4, 3, 184, 0, 132, 42, 27, 28, 182, 0, 184, 172]
abbrev dktX1_says_2 : List UInt8 := dkwX1_says_2 ++ []
def dkwX1_says_1 : List UInt8 := [180, 0, 116, 96, 4, 100, 184, 0, 128, 153, 0, 22, 28, 16, 10, 100, 42, 27, 182, 0, 81, 180, 0, 172]
abbrev dktX1_says_1 : List UInt8 := dkwX1_says_1 ++ dktX1_says_2
def dkwX1_says_0 : List UInt8 := [42, 27, 182, 0, 169, 28, 3, 6, 184, 0, 128, 154, 0, 39, 28, 16, 10, 16, 10, 42, 180, 0, 16]
abbrev dktX1_says_0 : List UInt8 := dkwX1_says_0 ++ dktX1_says_1
theorem dksX1_says_0 : cX1_says.data.toList.drop 0 = dktX1_says_0 := by decide +kernel
theorem dksX1_says_1 : cX1_says.data.toList.drop 23 = dktX1_says_1 := dk_seg dksX1_says_0 23 rfl rfl
theorem dksX1_says_2 : cX1_says.data.toList.drop 47 = dktX1_says_2 := dk_seg dksX1_says_1 24 rfl rfl
theorem dX1_says_0 : decode cX1_says 0 = .ok (.aload_n 0, 1) := dk_42 (dk_at dksX1_says_0 0 rfl rfl)
theorem dX1_says_1 : decode cX1_says 1 = .ok (.iload_n 1, 1) := dk_27 (dk_at dksX1_says_0 1 rfl rfl)
theorem dX1_says_2 : decode cX1_says 2 = .ok (.invokevirtual 169, 3) := dk_182 0 169 (dk_at dksX1_says_0 2 rfl rfl)
theorem dX1_says_5 : decode cX1_says 5 = .ok (.iload_n 2, 1) := dk_28 (dk_at dksX1_says_0 5 rfl rfl)
theorem dX1_says_6 : decode cX1_says 6 = .ok (.iconst 0, 1) := dk_3 (dk_at dksX1_says_0 6 rfl rfl)
theorem dX1_says_7 : decode cX1_says 7 = .ok (.iconst 3, 1) := dk_6 (dk_at dksX1_says_0 7 rfl rfl)
theorem dX1_says_8 : decode cX1_says 8 = .ok (.invokestatic 128, 3) := dk_184 0 128 (dk_at dksX1_says_0 8 rfl rfl)
theorem dX1_says_11 : decode cX1_says 11 = .ok (.ifCond .ne 39, 3) := dk_154 0 39 (dk_at dksX1_says_0 11 rfl rfl)
theorem dX1_says_14 : decode cX1_says 14 = .ok (.iload_n 2, 1) := dk_28 (dk_at dksX1_says_0 14 rfl rfl)
theorem dX1_says_15 : decode cX1_says 15 = .ok (.bipush 10, 2) := dk_16 10 (dk_at dksX1_says_0 15 rfl rfl)
theorem dX1_says_17 : decode cX1_says 17 = .ok (.bipush 10, 2) := dk_16 10 (dk_at dksX1_says_0 17 rfl rfl)
theorem dX1_says_19 : decode cX1_says 19 = .ok (.aload_n 0, 1) := dk_42 (dk_at dksX1_says_0 19 rfl rfl)
theorem dX1_says_20 : decode cX1_says 20 = .ok (.getfield 16, 3) := dk_180 0 16 (dk_at dksX1_says_0 20 rfl rfl)
theorem dX1_says_23 : decode cX1_says 23 = .ok (.getfield 116, 3) := dk_180 0 116 (dk_at dksX1_says_1 0 rfl rfl)
theorem dX1_says_26 : decode cX1_says 26 = .ok (.iadd, 1) := dk_96 (dk_at dksX1_says_1 3 rfl rfl)
theorem dX1_says_27 : decode cX1_says 27 = .ok (.iconst 1, 1) := dk_4 (dk_at dksX1_says_1 4 rfl rfl)
theorem dX1_says_28 : decode cX1_says 28 = .ok (.isub, 1) := dk_100 (dk_at dksX1_says_1 5 rfl rfl)
theorem dX1_says_29 : decode cX1_says 29 = .ok (.invokestatic 128, 3) := dk_184 0 128 (dk_at dksX1_says_1 6 rfl rfl)
theorem dX1_says_32 : decode cX1_says 32 = .ok (.ifCond .eq 22, 3) := dk_153 0 22 (dk_at dksX1_says_1 9 rfl rfl)
theorem dX1_says_35 : decode cX1_says 35 = .ok (.iload_n 2, 1) := dk_28 (dk_at dksX1_says_1 12 rfl rfl)
theorem dX1_says_36 : decode cX1_says 36 = .ok (.bipush 10, 2) := dk_16 10 (dk_at dksX1_says_1 13 rfl rfl)
theorem dX1_says_38 : decode cX1_says 38 = .ok (.isub, 1) := dk_100 (dk_at dksX1_says_1 15 rfl rfl)
theorem dX1_says_39 : decode cX1_says 39 = .ok (.aload_n 0, 1) := dk_42 (dk_at dksX1_says_1 16 rfl rfl)
theorem dX1_says_40 : decode cX1_says 40 = .ok (.iload_n 1, 1) := dk_27 (dk_at dksX1_says_1 17 rfl rfl)
theorem dX1_says_41 : decode cX1_says 41 = .ok (.invokevirtual 81, 3) := dk_182 0 81 (dk_at dksX1_says_1 18 rfl rfl)
theorem dX1_says_44 : decode cX1_says 44 = .ok (.getfield 172, 3) := dk_180 0 172 (dk_at dksX1_says_1 21 rfl rfl)
theorem dX1_says_47 : decode cX1_says 47 = .ok (.if_icmp .eq 7, 3) := dk_159 0 7 (dk_at dksX1_says_2 0 rfl rfl)
theorem dX1_says_50 : decode cX1_says 50 = .ok (.iconst 1, 1) := dk_4 (dk_at dksX1_says_2 3 rfl rfl)
theorem dX1_says_51 : decode cX1_says 51 = .ok (.goto 4, 3) := dk_167 0 4 (dk_at dksX1_says_2 4 rfl rfl)
theorem dX1_says_54 : decode cX1_says 54 = .ok (.iconst 0, 1) := dk_3 (dk_at dksX1_says_2 7 rfl rfl)
theorem dX1_says_55 : decode cX1_says 55 = .ok (.invokestatic 132, 3) := dk_184 0 132 (dk_at dksX1_says_2 8 rfl rfl)
theorem dX1_says_58 : decode cX1_says 58 = .ok (.aload_n 0, 1) := dk_42 (dk_at dksX1_says_2 11 rfl rfl)
theorem dX1_says_59 : decode cX1_says 59 = .ok (.iload_n 1, 1) := dk_27 (dk_at dksX1_says_2 12 rfl rfl)
theorem dX1_says_60 : decode cX1_says 60 = .ok (.iload_n 2, 1) := dk_28 (dk_at dksX1_says_2 13 rfl rfl)
theorem dX1_says_61 : decode cX1_says 61 = .ok (.invokevirtual 184, 3) := dk_182 0 184 (dk_at dksX1_says_2 14 rfl rfl)
theorem dX1_says_64 : decode cX1_says 64 = .ok (.ireturn, 1) := dk_172 (dk_at dksX1_says_2 17 rfl rfl)
def dkwX1_lend_3 : List UInt8 := [183, 0, 187, 185, 0, 190, 2, 0, 87, 42, 180, 0, 40, 185, 0, 107, 1, 0, 172]
abbrev dktX1_lend_3 : List UInt8 := dkwX1_lend_3 ++ []
def dkwX1_lend_2 : List UInt8 := [42, 180, 0, 30, 4, 92, 46, 4, 96, 79, 2, 172, 42, 180, 0, 40, 187, 0, 155, 89, 27, 28, 29]
abbrev dktX1_lend_2 : List UInt8 := dkwX1_lend_2 ++ dktX1_lend_3
def dkwX1_lend_1 : List UInt8 := [27, 28, 159, 0, 22, 29, 4, 5, 184, 0, 128, 153, 0, 13, 42, 27, 29, 182, 0, 166, 4, 162, 0, 15]
abbrev dktX1_lend_1 : List UInt8 := dkwX1_lend_1 ++ dktX1_lend_2
def dkwX1_lend_0 : List UInt8 := [42, 27, 182, 0, 169, 42, 28, 182, 0, 169, 42, 180, 0, 40, 185, 0, 107, 1, 0, 16, 12, 159, 0, 27]
abbrev dktX1_lend_0 : List UInt8 := dkwX1_lend_0 ++ dktX1_lend_1
theorem dksX1_lend_0 : cX1_lend.data.toList.drop 0 = dktX1_lend_0 := by decide +kernel
theorem dksX1_lend_1 : cX1_lend.data.toList.drop 24 = dktX1_lend_1 := dk_seg dksX1_lend_0 24 rfl rfl
theorem dksX1_lend_2 : cX1_lend.data.toList.drop 48 = dktX1_lend_2 := dk_seg dksX1_lend_1 24 rfl rfl
theorem dksX1_lend_3 : cX1_lend.data.toList.drop 71 = dktX1_lend_3 := dk_seg dksX1_lend_2 23 rfl rfl
theorem dX1_lend_0 : decode cX1_lend 0 = .ok (.aload_n 0, 1) := dk_42 (dk_at dksX1_lend_0 0 rfl rfl)
theorem dX1_lend_1 : decode cX1_lend 1 = .ok (.iload_n 1, 1) := dk_27 (dk_at dksX1_lend_0 1 rfl rfl)
theorem dX1_lend_2 : decode cX1_lend 2 = .ok (.invokevirtual 169, 3) := dk_182 0 169 (dk_at dksX1_lend_0 2 rfl rfl)
theorem dX1_lend_5 : decode cX1_lend 5 = .ok (.aload_n 0, 1) := dk_42 (dk_at dksX1_lend_0 5 rfl rfl)
theorem dX1_lend_6 : decode cX1_lend 6 = .ok (.iload_n 2, 1) := dk_28 (dk_at dksX1_lend_0 6 rfl rfl)
theorem dX1_lend_7 : decode cX1_lend 7 = .ok (.invokevirtual 169, 3) := dk_182 0 169 (dk_at dksX1_lend_0 7 rfl rfl)
theorem dX1_lend_10 : decode cX1_lend 10 = .ok (.aload_n 0, 1) := dk_42 (dk_at dksX1_lend_0 10 rfl rfl)
theorem dX1_lend_11 : decode cX1_lend 11 = .ok (.getfield 40, 3) := dk_180 0 40 (dk_at dksX1_lend_0 11 rfl rfl)
theorem dX1_lend_14 : decode cX1_lend 14 = .ok (.invokeinterface 107 1, 5) := by decide +kernel
theorem dX1_lend_19 : decode cX1_lend 19 = .ok (.bipush 12, 2) := dk_16 12 (dk_at dksX1_lend_0 19 rfl rfl)
theorem dX1_lend_21 : decode cX1_lend 21 = .ok (.if_icmp .eq 27, 3) := dk_159 0 27 (dk_at dksX1_lend_0 21 rfl rfl)
theorem dX1_lend_24 : decode cX1_lend 24 = .ok (.iload_n 1, 1) := dk_27 (dk_at dksX1_lend_1 0 rfl rfl)
theorem dX1_lend_25 : decode cX1_lend 25 = .ok (.iload_n 2, 1) := dk_28 (dk_at dksX1_lend_1 1 rfl rfl)
theorem dX1_lend_26 : decode cX1_lend 26 = .ok (.if_icmp .eq 22, 3) := dk_159 0 22 (dk_at dksX1_lend_1 2 rfl rfl)
theorem dX1_lend_29 : decode cX1_lend 29 = .ok (.iload_n 3, 1) := dk_29 (dk_at dksX1_lend_1 5 rfl rfl)
theorem dX1_lend_30 : decode cX1_lend 30 = .ok (.iconst 1, 1) := dk_4 (dk_at dksX1_lend_1 6 rfl rfl)
theorem dX1_lend_31 : decode cX1_lend 31 = .ok (.iconst 2, 1) := dk_5 (dk_at dksX1_lend_1 7 rfl rfl)
theorem dX1_lend_32 : decode cX1_lend 32 = .ok (.invokestatic 128, 3) := dk_184 0 128 (dk_at dksX1_lend_1 8 rfl rfl)
theorem dX1_lend_35 : decode cX1_lend 35 = .ok (.ifCond .eq 13, 3) := dk_153 0 13 (dk_at dksX1_lend_1 11 rfl rfl)
theorem dX1_lend_38 : decode cX1_lend 38 = .ok (.aload_n 0, 1) := dk_42 (dk_at dksX1_lend_1 14 rfl rfl)
theorem dX1_lend_39 : decode cX1_lend 39 = .ok (.iload_n 1, 1) := dk_27 (dk_at dksX1_lend_1 15 rfl rfl)
theorem dX1_lend_40 : decode cX1_lend 40 = .ok (.iload_n 3, 1) := dk_29 (dk_at dksX1_lend_1 16 rfl rfl)
theorem dX1_lend_41 : decode cX1_lend 41 = .ok (.invokevirtual 166, 3) := dk_182 0 166 (dk_at dksX1_lend_1 17 rfl rfl)
theorem dX1_lend_44 : decode cX1_lend 44 = .ok (.iconst 1, 1) := dk_4 (dk_at dksX1_lend_1 20 rfl rfl)
theorem dX1_lend_45 : decode cX1_lend 45 = .ok (.if_icmp .ge 15, 3) := dk_162 0 15 (dk_at dksX1_lend_1 21 rfl rfl)
theorem dX1_lend_48 : decode cX1_lend 48 = .ok (.aload_n 0, 1) := dk_42 (dk_at dksX1_lend_2 0 rfl rfl)
theorem dX1_lend_49 : decode cX1_lend 49 = .ok (.getfield 30, 3) := dk_180 0 30 (dk_at dksX1_lend_2 1 rfl rfl)
theorem dX1_lend_52 : decode cX1_lend 52 = .ok (.iconst 1, 1) := dk_4 (dk_at dksX1_lend_2 4 rfl rfl)
theorem dX1_lend_53 : decode cX1_lend 53 = .ok (.dup2, 1) := dk_92 (dk_at dksX1_lend_2 5 rfl rfl)
theorem dX1_lend_54 : decode cX1_lend 54 = .ok (.iaload, 1) := dk_46 (dk_at dksX1_lend_2 6 rfl rfl)
theorem dX1_lend_55 : decode cX1_lend 55 = .ok (.iconst 1, 1) := dk_4 (dk_at dksX1_lend_2 7 rfl rfl)
theorem dX1_lend_56 : decode cX1_lend 56 = .ok (.iadd, 1) := dk_96 (dk_at dksX1_lend_2 8 rfl rfl)
theorem dX1_lend_57 : decode cX1_lend 57 = .ok (.iastore, 1) := dk_79 (dk_at dksX1_lend_2 9 rfl rfl)
theorem dX1_lend_58 : decode cX1_lend 58 = .ok (.iconst (-1), 1) := dk_2 (dk_at dksX1_lend_2 10 rfl rfl)
theorem dX1_lend_59 : decode cX1_lend 59 = .ok (.ireturn, 1) := dk_172 (dk_at dksX1_lend_2 11 rfl rfl)
theorem dX1_lend_60 : decode cX1_lend 60 = .ok (.aload_n 0, 1) := dk_42 (dk_at dksX1_lend_2 12 rfl rfl)
theorem dX1_lend_61 : decode cX1_lend 61 = .ok (.getfield 40, 3) := dk_180 0 40 (dk_at dksX1_lend_2 13 rfl rfl)
theorem dX1_lend_64 : decode cX1_lend 64 = .ok (.new 155, 3) := dk_187 0 155 (dk_at dksX1_lend_2 16 rfl rfl)
theorem dX1_lend_67 : decode cX1_lend 67 = .ok (.dup, 1) := dk_89 (dk_at dksX1_lend_2 19 rfl rfl)
theorem dX1_lend_68 : decode cX1_lend 68 = .ok (.iload_n 1, 1) := dk_27 (dk_at dksX1_lend_2 20 rfl rfl)
theorem dX1_lend_69 : decode cX1_lend 69 = .ok (.iload_n 2, 1) := dk_28 (dk_at dksX1_lend_2 21 rfl rfl)
theorem dX1_lend_70 : decode cX1_lend 70 = .ok (.iload_n 3, 1) := dk_29 (dk_at dksX1_lend_2 22 rfl rfl)
theorem dX1_lend_71 : decode cX1_lend 71 = .ok (.invokespecial 187, 3) := dk_183 0 187 (dk_at dksX1_lend_3 0 rfl rfl)
theorem dX1_lend_74 : decode cX1_lend 74 = .ok (.invokeinterface 190 2, 5) := by decide +kernel
theorem dX1_lend_79 : decode cX1_lend 79 = .ok (.pop, 1) := dk_87 (dk_at dksX1_lend_3 8 rfl rfl)
theorem dX1_lend_80 : decode cX1_lend 80 = .ok (.aload_n 0, 1) := dk_42 (dk_at dksX1_lend_3 9 rfl rfl)
theorem dX1_lend_81 : decode cX1_lend 81 = .ok (.getfield 40, 3) := dk_180 0 40 (dk_at dksX1_lend_3 10 rfl rfl)
theorem dX1_lend_84 : decode cX1_lend 84 = .ok (.invokeinterface 107 1, 5) := by decide +kernel
theorem dX1_lend_89 : decode cX1_lend 89 = .ok (.ireturn, 1) := dk_172 (dk_at dksX1_lend_3 18 rfl rfl)
def dkwX1_does_0 : List UInt8 := [42, 27, 182, 0, 169, 28, 184, 0, 175, 42, 180, 0, 44, 16, 24, 27, 104, 28, 96, 46, 172]
abbrev dktX1_does_0 : List UInt8 := dkwX1_does_0 ++ []
theorem dksX1_does_0 : cX1_does.data.toList.drop 0 = dktX1_does_0 := by decide +kernel
theorem dX1_does_0 : decode cX1_does 0 = .ok (.aload_n 0, 1) := dk_42 (dk_at dksX1_does_0 0 rfl rfl)
theorem dX1_does_1 : decode cX1_does 1 = .ok (.iload_n 1, 1) := dk_27 (dk_at dksX1_does_0 1 rfl rfl)
theorem dX1_does_2 : decode cX1_does 2 = .ok (.invokevirtual 169, 3) := dk_182 0 169 (dk_at dksX1_does_0 2 rfl rfl)
theorem dX1_does_5 : decode cX1_does 5 = .ok (.iload_n 2, 1) := dk_28 (dk_at dksX1_does_0 5 rfl rfl)
theorem dX1_does_6 : decode cX1_does 6 = .ok (.invokestatic 175, 3) := dk_184 0 175 (dk_at dksX1_does_0 6 rfl rfl)
theorem dX1_does_9 : decode cX1_does 9 = .ok (.aload_n 0, 1) := dk_42 (dk_at dksX1_does_0 9 rfl rfl)
theorem dX1_does_10 : decode cX1_does 10 = .ok (.getfield 44, 3) := dk_180 0 44 (dk_at dksX1_does_0 10 rfl rfl)
theorem dX1_does_13 : decode cX1_does 13 = .ok (.bipush 24, 2) := dk_16 24 (dk_at dksX1_does_0 13 rfl rfl)
theorem dX1_does_15 : decode cX1_does 15 = .ok (.iload_n 1, 1) := dk_27 (dk_at dksX1_does_0 15 rfl rfl)
theorem dX1_does_16 : decode cX1_does 16 = .ok (.imul, 1) := dk_104 (dk_at dksX1_does_0 16 rfl rfl)
theorem dX1_does_17 : decode cX1_does 17 = .ok (.iload_n 2, 1) := dk_28 (dk_at dksX1_does_0 17 rfl rfl)
theorem dX1_does_18 : decode cX1_does 18 = .ok (.iadd, 1) := dk_96 (dk_at dksX1_does_0 18 rfl rfl)
theorem dX1_does_19 : decode cX1_does 19 = .ok (.iaload, 1) := dk_46 (dk_at dksX1_does_0 19 rfl rfl)
theorem dX1_does_20 : decode cX1_does 20 = .ok (.ireturn, 1) := dk_172 (dk_at dksX1_does_0 20 rfl rfl)
def dkwX1_sign_0 : List UInt8 := [42, 27, 182, 0, 138, 28, 184, 0, 175, 42, 27, 28, 182, 0, 202, 172]
abbrev dktX1_sign_0 : List UInt8 := dkwX1_sign_0 ++ []
theorem dksX1_sign_0 : cX1_sign.data.toList.drop 0 = dktX1_sign_0 := by decide +kernel
theorem dX1_sign_0 : decode cX1_sign 0 = .ok (.aload_n 0, 1) := dk_42 (dk_at dksX1_sign_0 0 rfl rfl)
theorem dX1_sign_1 : decode cX1_sign 1 = .ok (.iload_n 1, 1) := dk_27 (dk_at dksX1_sign_0 1 rfl rfl)
theorem dX1_sign_2 : decode cX1_sign 2 = .ok (.invokevirtual 138, 3) := dk_182 0 138 (dk_at dksX1_sign_0 2 rfl rfl)
theorem dX1_sign_5 : decode cX1_sign 5 = .ok (.iload_n 2, 1) := dk_28 (dk_at dksX1_sign_0 5 rfl rfl)
theorem dX1_sign_6 : decode cX1_sign 6 = .ok (.invokestatic 175, 3) := dk_184 0 175 (dk_at dksX1_sign_0 6 rfl rfl)
theorem dX1_sign_9 : decode cX1_sign 9 = .ok (.aload_n 0, 1) := dk_42 (dk_at dksX1_sign_0 9 rfl rfl)
theorem dX1_sign_10 : decode cX1_sign 10 = .ok (.iload_n 1, 1) := dk_27 (dk_at dksX1_sign_0 10 rfl rfl)
theorem dX1_sign_11 : decode cX1_sign 11 = .ok (.iload_n 2, 1) := dk_28 (dk_at dksX1_sign_0 11 rfl rfl)
theorem dX1_sign_12 : decode cX1_sign 12 = .ok (.invokevirtual 202, 3) := dk_182 0 202 (dk_at dksX1_sign_0 12 rfl rfl)
theorem dX1_sign_15 : decode cX1_sign 15 = .ok (.ireturn, 1) := dk_172 (dk_at dksX1_sign_0 15 rfl rfl)
def dkwX1_signAt_1 : List UInt8 := [16, 24, 29, 104, 28, 96, 46, 182, 0, 184, 172]
abbrev dktX1_signAt_1 : List UInt8 := dkwX1_signAt_1 ++ []
def dkwX1_signAt_0 : List UInt8 := [42, 180, 0, 16, 27, 182, 0, 148, 62, 29, 2, 160, 0, 7, 6, 167, 0, 19, 42, 29, 42, 180, 0, 44]
abbrev dktX1_signAt_0 : List UInt8 := dkwX1_signAt_0 ++ dktX1_signAt_1
theorem dksX1_signAt_0 : cX1_signAt.data.toList.drop 0 = dktX1_signAt_0 := by decide +kernel
theorem dksX1_signAt_1 : cX1_signAt.data.toList.drop 24 = dktX1_signAt_1 := dk_seg dksX1_signAt_0 24 rfl rfl
theorem dX1_signAt_0 : decode cX1_signAt 0 = .ok (.aload_n 0, 1) := dk_42 (dk_at dksX1_signAt_0 0 rfl rfl)
theorem dX1_signAt_1 : decode cX1_signAt 1 = .ok (.getfield 16, 3) := dk_180 0 16 (dk_at dksX1_signAt_0 1 rfl rfl)
theorem dX1_signAt_4 : decode cX1_signAt 4 = .ok (.iload_n 1, 1) := dk_27 (dk_at dksX1_signAt_0 4 rfl rfl)
theorem dX1_signAt_5 : decode cX1_signAt 5 = .ok (.invokevirtual 148, 3) := dk_182 0 148 (dk_at dksX1_signAt_0 5 rfl rfl)
theorem dX1_signAt_8 : decode cX1_signAt 8 = .ok (.istore_n 3, 1) := dk_62 (dk_at dksX1_signAt_0 8 rfl rfl)
theorem dX1_signAt_9 : decode cX1_signAt 9 = .ok (.iload_n 3, 1) := dk_29 (dk_at dksX1_signAt_0 9 rfl rfl)
theorem dX1_signAt_10 : decode cX1_signAt 10 = .ok (.iconst (-1), 1) := dk_2 (dk_at dksX1_signAt_0 10 rfl rfl)
theorem dX1_signAt_11 : decode cX1_signAt 11 = .ok (.if_icmp .ne 7, 3) := dk_160 0 7 (dk_at dksX1_signAt_0 11 rfl rfl)
theorem dX1_signAt_14 : decode cX1_signAt 14 = .ok (.iconst 3, 1) := dk_6 (dk_at dksX1_signAt_0 14 rfl rfl)
theorem dX1_signAt_15 : decode cX1_signAt 15 = .ok (.goto 19, 3) := dk_167 0 19 (dk_at dksX1_signAt_0 15 rfl rfl)
theorem dX1_signAt_18 : decode cX1_signAt 18 = .ok (.aload_n 0, 1) := dk_42 (dk_at dksX1_signAt_0 18 rfl rfl)
theorem dX1_signAt_19 : decode cX1_signAt 19 = .ok (.iload_n 3, 1) := dk_29 (dk_at dksX1_signAt_0 19 rfl rfl)
theorem dX1_signAt_20 : decode cX1_signAt 20 = .ok (.aload_n 0, 1) := dk_42 (dk_at dksX1_signAt_0 20 rfl rfl)
theorem dX1_signAt_21 : decode cX1_signAt 21 = .ok (.getfield 44, 3) := dk_180 0 44 (dk_at dksX1_signAt_0 21 rfl rfl)
theorem dX1_signAt_24 : decode cX1_signAt 24 = .ok (.bipush 24, 2) := dk_16 24 (dk_at dksX1_signAt_1 0 rfl rfl)
theorem dX1_signAt_26 : decode cX1_signAt 26 = .ok (.iload_n 3, 1) := dk_29 (dk_at dksX1_signAt_1 2 rfl rfl)
theorem dX1_signAt_27 : decode cX1_signAt 27 = .ok (.imul, 1) := dk_104 (dk_at dksX1_signAt_1 3 rfl rfl)
theorem dX1_signAt_28 : decode cX1_signAt 28 = .ok (.iload_n 2, 1) := dk_28 (dk_at dksX1_signAt_1 4 rfl rfl)
theorem dX1_signAt_29 : decode cX1_signAt 29 = .ok (.iadd, 1) := dk_96 (dk_at dksX1_signAt_1 5 rfl rfl)
theorem dX1_signAt_30 : decode cX1_signAt 30 = .ok (.iaload, 1) := dk_46 (dk_at dksX1_signAt_1 6 rfl rfl)
theorem dX1_signAt_31 : decode cX1_signAt 31 = .ok (.invokevirtual 184, 3) := dk_182 0 184 (dk_at dksX1_signAt_1 7 rfl rfl)
theorem dX1_signAt_34 : decode cX1_signAt 34 = .ok (.ireturn, 1) := dk_172 (dk_at dksX1_signAt_1 10 rfl rfl)
def dkwX1_look_2 : List UInt8 := [28, 96, 29, 79, 21, 4, 172]
abbrev dktX1_look_2 : List UInt8 := dkwX1_look_2 ++ []
def dkwX1_look_1 : List UInt8 := [182, 0, 138, 42, 180, 0, 47, 16, 24, 27, 104, 28, 96, 46, 54, 4, 42, 180, 0, 47, 16, 24, 27, 104]
abbrev dktX1_look_1 : List UInt8 := dkwX1_look_1 ++ dktX1_look_2
def dkwX1_look_0 : List UInt8 := [27, 3, 42, 180, 0, 16, 180, 0, 119, 4, 100, 184, 0, 128, 184, 0, 132, 28, 184, 0, 175, 42, 29]
abbrev dktX1_look_0 : List UInt8 := dkwX1_look_0 ++ dktX1_look_1
theorem dksX1_look_0 : cX1_look.data.toList.drop 0 = dktX1_look_0 := by decide +kernel
theorem dksX1_look_1 : cX1_look.data.toList.drop 23 = dktX1_look_1 := dk_seg dksX1_look_0 23 rfl rfl
theorem dksX1_look_2 : cX1_look.data.toList.drop 47 = dktX1_look_2 := dk_seg dksX1_look_1 24 rfl rfl
theorem dX1_look_0 : decode cX1_look 0 = .ok (.iload_n 1, 1) := dk_27 (dk_at dksX1_look_0 0 rfl rfl)
theorem dX1_look_1 : decode cX1_look 1 = .ok (.iconst 0, 1) := dk_3 (dk_at dksX1_look_0 1 rfl rfl)
theorem dX1_look_2 : decode cX1_look 2 = .ok (.aload_n 0, 1) := dk_42 (dk_at dksX1_look_0 2 rfl rfl)
theorem dX1_look_3 : decode cX1_look 3 = .ok (.getfield 16, 3) := dk_180 0 16 (dk_at dksX1_look_0 3 rfl rfl)
theorem dX1_look_6 : decode cX1_look 6 = .ok (.getfield 119, 3) := dk_180 0 119 (dk_at dksX1_look_0 6 rfl rfl)
theorem dX1_look_9 : decode cX1_look 9 = .ok (.iconst 1, 1) := dk_4 (dk_at dksX1_look_0 9 rfl rfl)
theorem dX1_look_10 : decode cX1_look 10 = .ok (.isub, 1) := dk_100 (dk_at dksX1_look_0 10 rfl rfl)
theorem dX1_look_11 : decode cX1_look 11 = .ok (.invokestatic 128, 3) := dk_184 0 128 (dk_at dksX1_look_0 11 rfl rfl)
theorem dX1_look_14 : decode cX1_look 14 = .ok (.invokestatic 132, 3) := dk_184 0 132 (dk_at dksX1_look_0 14 rfl rfl)
theorem dX1_look_17 : decode cX1_look 17 = .ok (.iload_n 2, 1) := dk_28 (dk_at dksX1_look_0 17 rfl rfl)
theorem dX1_look_18 : decode cX1_look 18 = .ok (.invokestatic 175, 3) := dk_184 0 175 (dk_at dksX1_look_0 18 rfl rfl)
theorem dX1_look_21 : decode cX1_look 21 = .ok (.aload_n 0, 1) := dk_42 (dk_at dksX1_look_0 21 rfl rfl)
theorem dX1_look_22 : decode cX1_look 22 = .ok (.iload_n 3, 1) := dk_29 (dk_at dksX1_look_0 22 rfl rfl)
theorem dX1_look_23 : decode cX1_look 23 = .ok (.invokevirtual 138, 3) := dk_182 0 138 (dk_at dksX1_look_1 0 rfl rfl)
theorem dX1_look_26 : decode cX1_look 26 = .ok (.aload_n 0, 1) := dk_42 (dk_at dksX1_look_1 3 rfl rfl)
theorem dX1_look_27 : decode cX1_look 27 = .ok (.getfield 47, 3) := dk_180 0 47 (dk_at dksX1_look_1 4 rfl rfl)
theorem dX1_look_30 : decode cX1_look 30 = .ok (.bipush 24, 2) := dk_16 24 (dk_at dksX1_look_1 7 rfl rfl)
theorem dX1_look_32 : decode cX1_look 32 = .ok (.iload_n 1, 1) := dk_27 (dk_at dksX1_look_1 9 rfl rfl)
theorem dX1_look_33 : decode cX1_look 33 = .ok (.imul, 1) := dk_104 (dk_at dksX1_look_1 10 rfl rfl)
theorem dX1_look_34 : decode cX1_look 34 = .ok (.iload_n 2, 1) := dk_28 (dk_at dksX1_look_1 11 rfl rfl)
theorem dX1_look_35 : decode cX1_look 35 = .ok (.iadd, 1) := dk_96 (dk_at dksX1_look_1 12 rfl rfl)
theorem dX1_look_36 : decode cX1_look 36 = .ok (.iaload, 1) := dk_46 (dk_at dksX1_look_1 13 rfl rfl)
theorem dX1_look_37 : decode cX1_look 37 = .ok (.istore 4, 2) := dk_54 4 (dk_at dksX1_look_1 14 rfl rfl)
theorem dX1_look_39 : decode cX1_look 39 = .ok (.aload_n 0, 1) := dk_42 (dk_at dksX1_look_1 16 rfl rfl)
theorem dX1_look_40 : decode cX1_look 40 = .ok (.getfield 47, 3) := dk_180 0 47 (dk_at dksX1_look_1 17 rfl rfl)
theorem dX1_look_43 : decode cX1_look 43 = .ok (.bipush 24, 2) := dk_16 24 (dk_at dksX1_look_1 20 rfl rfl)
theorem dX1_look_45 : decode cX1_look 45 = .ok (.iload_n 1, 1) := dk_27 (dk_at dksX1_look_1 22 rfl rfl)
theorem dX1_look_46 : decode cX1_look 46 = .ok (.imul, 1) := dk_104 (dk_at dksX1_look_1 23 rfl rfl)
theorem dX1_look_47 : decode cX1_look 47 = .ok (.iload_n 2, 1) := dk_28 (dk_at dksX1_look_2 0 rfl rfl)
theorem dX1_look_48 : decode cX1_look 48 = .ok (.iadd, 1) := dk_96 (dk_at dksX1_look_2 1 rfl rfl)
theorem dX1_look_49 : decode cX1_look 49 = .ok (.iload_n 3, 1) := dk_29 (dk_at dksX1_look_2 2 rfl rfl)
theorem dX1_look_50 : decode cX1_look 50 = .ok (.iastore, 1) := dk_79 (dk_at dksX1_look_2 3 rfl rfl)
theorem dX1_look_51 : decode cX1_look 51 = .ok (.iload 4, 2) := dk_21 4 (dk_at dksX1_look_2 4 rfl rfl)
theorem dX1_look_53 : decode cX1_look 53 = .ok (.ireturn, 1) := dk_172 (dk_at dksX1_look_2 6 rfl rfl)
def dkwX1_theft_3 : List UInt8 := [154, 0, 8, 21, 4, 167, 0, 4, 29, 172, 132, 4, 1, 167, 255, 205, 132, 3, 1, 167, 255, 178, 2, 172]
abbrev dktX1_theft_3 : List UInt8 := dkwX1_theft_3 ++ []
def dkwX1_theft_2 : List UInt8 := [16, 24, 21, 4, 104, 29, 96, 46, 27, 160, 0, 23, 42, 27, 29, 182, 0, 202, 154, 0, 14, 28]
abbrev dktX1_theft_2 : List UInt8 := dkwX1_theft_2 ++ dktX1_theft_3
def dkwX1_theft_1 : List UInt8 := [27, 46, 158, 0, 66, 3, 54, 4, 21, 4, 42, 180, 0, 16, 180, 0, 119, 162, 0, 45, 42, 180, 0, 47]
abbrev dktX1_theft_1 : List UInt8 := dkwX1_theft_1 ++ dktX1_theft_2
def dkwX1_theft_0 : List UInt8 := [42, 27, 182, 0, 138, 28, 184, 0, 142, 3, 62, 29, 16, 24, 162, 0, 78, 42, 180, 0, 16, 180, 0, 145]
abbrev dktX1_theft_0 : List UInt8 := dkwX1_theft_0 ++ dktX1_theft_1
theorem dksX1_theft_0 : cX1_theft.data.toList.drop 0 = dktX1_theft_0 := by decide +kernel
theorem dksX1_theft_1 : cX1_theft.data.toList.drop 24 = dktX1_theft_1 := dk_seg dksX1_theft_0 24 rfl rfl
theorem dksX1_theft_2 : cX1_theft.data.toList.drop 48 = dktX1_theft_2 := dk_seg dksX1_theft_1 24 rfl rfl
theorem dksX1_theft_3 : cX1_theft.data.toList.drop 70 = dktX1_theft_3 := dk_seg dksX1_theft_2 22 rfl rfl
theorem dX1_theft_0 : decode cX1_theft 0 = .ok (.aload_n 0, 1) := dk_42 (dk_at dksX1_theft_0 0 rfl rfl)
theorem dX1_theft_1 : decode cX1_theft 1 = .ok (.iload_n 1, 1) := dk_27 (dk_at dksX1_theft_0 1 rfl rfl)
theorem dX1_theft_2 : decode cX1_theft 2 = .ok (.invokevirtual 138, 3) := dk_182 0 138 (dk_at dksX1_theft_0 2 rfl rfl)
theorem dX1_theft_5 : decode cX1_theft 5 = .ok (.iload_n 2, 1) := dk_28 (dk_at dksX1_theft_0 5 rfl rfl)
theorem dX1_theft_6 : decode cX1_theft 6 = .ok (.invokestatic 142, 3) := dk_184 0 142 (dk_at dksX1_theft_0 6 rfl rfl)
theorem dX1_theft_9 : decode cX1_theft 9 = .ok (.iconst 0, 1) := dk_3 (dk_at dksX1_theft_0 9 rfl rfl)
theorem dX1_theft_10 : decode cX1_theft 10 = .ok (.istore_n 3, 1) := dk_62 (dk_at dksX1_theft_0 10 rfl rfl)
theorem dX1_theft_11 : decode cX1_theft 11 = .ok (.iload_n 3, 1) := dk_29 (dk_at dksX1_theft_0 11 rfl rfl)
theorem dX1_theft_12 : decode cX1_theft 12 = .ok (.bipush 24, 2) := dk_16 24 (dk_at dksX1_theft_0 12 rfl rfl)
theorem dX1_theft_14 : decode cX1_theft 14 = .ok (.if_icmp .ge 78, 3) := dk_162 0 78 (dk_at dksX1_theft_0 14 rfl rfl)
theorem dX1_theft_17 : decode cX1_theft 17 = .ok (.aload_n 0, 1) := dk_42 (dk_at dksX1_theft_0 17 rfl rfl)
theorem dX1_theft_18 : decode cX1_theft 18 = .ok (.getfield 16, 3) := dk_180 0 16 (dk_at dksX1_theft_0 18 rfl rfl)
theorem dX1_theft_21 : decode cX1_theft 21 = .ok (.getfield 145, 3) := dk_180 0 145 (dk_at dksX1_theft_0 21 rfl rfl)
theorem dX1_theft_24 : decode cX1_theft 24 = .ok (.iload_n 1, 1) := dk_27 (dk_at dksX1_theft_1 0 rfl rfl)
theorem dX1_theft_25 : decode cX1_theft 25 = .ok (.iaload, 1) := dk_46 (dk_at dksX1_theft_1 1 rfl rfl)
theorem dX1_theft_26 : decode cX1_theft 26 = .ok (.ifCond .le 66, 3) := dk_158 0 66 (dk_at dksX1_theft_1 2 rfl rfl)
theorem dX1_theft_29 : decode cX1_theft 29 = .ok (.iconst 0, 1) := dk_3 (dk_at dksX1_theft_1 5 rfl rfl)
theorem dX1_theft_30 : decode cX1_theft 30 = .ok (.istore 4, 2) := dk_54 4 (dk_at dksX1_theft_1 6 rfl rfl)
theorem dX1_theft_32 : decode cX1_theft 32 = .ok (.iload 4, 2) := dk_21 4 (dk_at dksX1_theft_1 8 rfl rfl)
theorem dX1_theft_34 : decode cX1_theft 34 = .ok (.aload_n 0, 1) := dk_42 (dk_at dksX1_theft_1 10 rfl rfl)
theorem dX1_theft_35 : decode cX1_theft 35 = .ok (.getfield 16, 3) := dk_180 0 16 (dk_at dksX1_theft_1 11 rfl rfl)
theorem dX1_theft_38 : decode cX1_theft 38 = .ok (.getfield 119, 3) := dk_180 0 119 (dk_at dksX1_theft_1 14 rfl rfl)
theorem dX1_theft_41 : decode cX1_theft 41 = .ok (.if_icmp .ge 45, 3) := dk_162 0 45 (dk_at dksX1_theft_1 17 rfl rfl)
theorem dX1_theft_44 : decode cX1_theft 44 = .ok (.aload_n 0, 1) := dk_42 (dk_at dksX1_theft_1 20 rfl rfl)
theorem dX1_theft_45 : decode cX1_theft 45 = .ok (.getfield 47, 3) := dk_180 0 47 (dk_at dksX1_theft_1 21 rfl rfl)
theorem dX1_theft_48 : decode cX1_theft 48 = .ok (.bipush 24, 2) := dk_16 24 (dk_at dksX1_theft_2 0 rfl rfl)
theorem dX1_theft_50 : decode cX1_theft 50 = .ok (.iload 4, 2) := dk_21 4 (dk_at dksX1_theft_2 2 rfl rfl)
theorem dX1_theft_52 : decode cX1_theft 52 = .ok (.imul, 1) := dk_104 (dk_at dksX1_theft_2 4 rfl rfl)
theorem dX1_theft_53 : decode cX1_theft 53 = .ok (.iload_n 3, 1) := dk_29 (dk_at dksX1_theft_2 5 rfl rfl)
theorem dX1_theft_54 : decode cX1_theft 54 = .ok (.iadd, 1) := dk_96 (dk_at dksX1_theft_2 6 rfl rfl)
theorem dX1_theft_55 : decode cX1_theft 55 = .ok (.iaload, 1) := dk_46 (dk_at dksX1_theft_2 7 rfl rfl)
theorem dX1_theft_56 : decode cX1_theft 56 = .ok (.iload_n 1, 1) := dk_27 (dk_at dksX1_theft_2 8 rfl rfl)
theorem dX1_theft_57 : decode cX1_theft 57 = .ok (.if_icmp .ne 23, 3) := dk_160 0 23 (dk_at dksX1_theft_2 9 rfl rfl)
theorem dX1_theft_60 : decode cX1_theft 60 = .ok (.aload_n 0, 1) := dk_42 (dk_at dksX1_theft_2 12 rfl rfl)
theorem dX1_theft_61 : decode cX1_theft 61 = .ok (.iload_n 1, 1) := dk_27 (dk_at dksX1_theft_2 13 rfl rfl)
theorem dX1_theft_62 : decode cX1_theft 62 = .ok (.iload_n 3, 1) := dk_29 (dk_at dksX1_theft_2 14 rfl rfl)
theorem dX1_theft_63 : decode cX1_theft 63 = .ok (.invokevirtual 202, 3) := dk_182 0 202 (dk_at dksX1_theft_2 15 rfl rfl)
theorem dX1_theft_66 : decode cX1_theft 66 = .ok (.ifCond .ne 14, 3) := dk_154 0 14 (dk_at dksX1_theft_2 18 rfl rfl)
theorem dX1_theft_69 : decode cX1_theft 69 = .ok (.iload_n 2, 1) := dk_28 (dk_at dksX1_theft_2 21 rfl rfl)
theorem dX1_theft_70 : decode cX1_theft 70 = .ok (.ifCond .ne 8, 3) := dk_154 0 8 (dk_at dksX1_theft_3 0 rfl rfl)
theorem dX1_theft_73 : decode cX1_theft 73 = .ok (.iload 4, 2) := dk_21 4 (dk_at dksX1_theft_3 3 rfl rfl)
theorem dX1_theft_75 : decode cX1_theft 75 = .ok (.goto 4, 3) := dk_167 0 4 (dk_at dksX1_theft_3 5 rfl rfl)
theorem dX1_theft_78 : decode cX1_theft 78 = .ok (.iload_n 3, 1) := dk_29 (dk_at dksX1_theft_3 8 rfl rfl)
theorem dX1_theft_79 : decode cX1_theft 79 = .ok (.ireturn, 1) := dk_172 (dk_at dksX1_theft_3 9 rfl rfl)
theorem dX1_theft_80 : decode cX1_theft 80 = .ok (.iinc 4 1, 3) := dk_132 4 1 (dk_at dksX1_theft_3 10 rfl rfl)
theorem dX1_theft_83 : decode cX1_theft 83 = .ok (.goto (-51), 3) := dk_167 255 205 (dk_at dksX1_theft_3 13 rfl rfl)
theorem dX1_theft_86 : decode cX1_theft 86 = .ok (.iinc 3 1, 3) := dk_132 3 1 (dk_at dksX1_theft_3 16 rfl rfl)
theorem dX1_theft_89 : decode cX1_theft 89 = .ok (.goto (-78), 3) := dk_167 255 178 (dk_at dksX1_theft_3 19 rfl rfl)
theorem dX1_theft_92 : decode cX1_theft 92 = .ok (.iconst (-1), 1) := dk_2 (dk_at dksX1_theft_3 22 rfl rfl)
theorem dX1_theft_93 : decode cX1_theft 93 = .ok (.ireturn, 1) := dk_172 (dk_at dksX1_theft_3 23 rfl rfl)
def dkwX1_see_4 : List UInt8 := [172]
abbrev dktX1_see_4 : List UInt8 := dkwX1_see_4 ++ []
def dkwX1_see_3 : List UInt8 := [180, 0, 125, 4, 27, 120, 128, 181, 0, 125, 42, 180, 0, 34, 27, 29, 79, 42, 180, 0, 125, 184, 0, 205]
abbrev dktX1_see_3 : List UInt8 := dkwX1_see_3 ++ dktX1_see_4
def dkwX1_see_2 : List UInt8 := [79, 2, 172, 42, 180, 0, 50, 28, 159, 0, 8, 42, 182, 0, 93, 87, 42, 28, 181, 0, 50, 42, 89]
abbrev dktX1_see_2 : List UInt8 := dkwX1_see_2 ++ dktX1_see_3
def dkwX1_see_1 : List UInt8 := [160, 0, 27, 42, 180, 0, 125, 27, 122, 4, 126, 4, 160, 0, 15, 42, 180, 0, 30, 5, 92, 46, 4, 96]
abbrev dktX1_see_1 : List UInt8 := dkwX1_see_1 ++ dktX1_see_2
def dkwX1_see_0 : List UInt8 := [42, 27, 182, 0, 138, 28, 184, 0, 175, 29, 3, 6, 184, 0, 128, 153, 0, 23, 42, 180, 0, 50, 28]
abbrev dktX1_see_0 : List UInt8 := dkwX1_see_0 ++ dktX1_see_1
theorem dksX1_see_0 : cX1_see.data.toList.drop 0 = dktX1_see_0 := by decide +kernel
theorem dksX1_see_1 : cX1_see.data.toList.drop 23 = dktX1_see_1 := dk_seg dksX1_see_0 23 rfl rfl
theorem dksX1_see_2 : cX1_see.data.toList.drop 47 = dktX1_see_2 := dk_seg dksX1_see_1 24 rfl rfl
theorem dksX1_see_3 : cX1_see.data.toList.drop 70 = dktX1_see_3 := dk_seg dksX1_see_2 23 rfl rfl
theorem dksX1_see_4 : cX1_see.data.toList.drop 94 = dktX1_see_4 := dk_seg dksX1_see_3 24 rfl rfl
theorem dX1_see_0 : decode cX1_see 0 = .ok (.aload_n 0, 1) := dk_42 (dk_at dksX1_see_0 0 rfl rfl)
theorem dX1_see_1 : decode cX1_see 1 = .ok (.iload_n 1, 1) := dk_27 (dk_at dksX1_see_0 1 rfl rfl)
theorem dX1_see_2 : decode cX1_see 2 = .ok (.invokevirtual 138, 3) := dk_182 0 138 (dk_at dksX1_see_0 2 rfl rfl)
theorem dX1_see_5 : decode cX1_see 5 = .ok (.iload_n 2, 1) := dk_28 (dk_at dksX1_see_0 5 rfl rfl)
theorem dX1_see_6 : decode cX1_see 6 = .ok (.invokestatic 175, 3) := dk_184 0 175 (dk_at dksX1_see_0 6 rfl rfl)
theorem dX1_see_9 : decode cX1_see 9 = .ok (.iload_n 3, 1) := dk_29 (dk_at dksX1_see_0 9 rfl rfl)
theorem dX1_see_10 : decode cX1_see 10 = .ok (.iconst 0, 1) := dk_3 (dk_at dksX1_see_0 10 rfl rfl)
theorem dX1_see_11 : decode cX1_see 11 = .ok (.iconst 3, 1) := dk_6 (dk_at dksX1_see_0 11 rfl rfl)
theorem dX1_see_12 : decode cX1_see 12 = .ok (.invokestatic 128, 3) := dk_184 0 128 (dk_at dksX1_see_0 12 rfl rfl)
theorem dX1_see_15 : decode cX1_see 15 = .ok (.ifCond .eq 23, 3) := dk_153 0 23 (dk_at dksX1_see_0 15 rfl rfl)
theorem dX1_see_18 : decode cX1_see 18 = .ok (.aload_n 0, 1) := dk_42 (dk_at dksX1_see_0 18 rfl rfl)
theorem dX1_see_19 : decode cX1_see 19 = .ok (.getfield 50, 3) := dk_180 0 50 (dk_at dksX1_see_0 19 rfl rfl)
theorem dX1_see_22 : decode cX1_see 22 = .ok (.iload_n 2, 1) := dk_28 (dk_at dksX1_see_0 22 rfl rfl)
theorem dX1_see_23 : decode cX1_see 23 = .ok (.if_icmp .ne 27, 3) := dk_160 0 27 (dk_at dksX1_see_1 0 rfl rfl)
theorem dX1_see_26 : decode cX1_see 26 = .ok (.aload_n 0, 1) := dk_42 (dk_at dksX1_see_1 3 rfl rfl)
theorem dX1_see_27 : decode cX1_see 27 = .ok (.getfield 125, 3) := dk_180 0 125 (dk_at dksX1_see_1 4 rfl rfl)
theorem dX1_see_30 : decode cX1_see 30 = .ok (.iload_n 1, 1) := dk_27 (dk_at dksX1_see_1 7 rfl rfl)
theorem dX1_see_31 : decode cX1_see 31 = .ok (.ishr, 1) := dk_122 (dk_at dksX1_see_1 8 rfl rfl)
theorem dX1_see_32 : decode cX1_see 32 = .ok (.iconst 1, 1) := dk_4 (dk_at dksX1_see_1 9 rfl rfl)
theorem dX1_see_33 : decode cX1_see 33 = .ok (.iand, 1) := dk_126 (dk_at dksX1_see_1 10 rfl rfl)
theorem dX1_see_34 : decode cX1_see 34 = .ok (.iconst 1, 1) := dk_4 (dk_at dksX1_see_1 11 rfl rfl)
theorem dX1_see_35 : decode cX1_see 35 = .ok (.if_icmp .ne 15, 3) := dk_160 0 15 (dk_at dksX1_see_1 12 rfl rfl)
theorem dX1_see_38 : decode cX1_see 38 = .ok (.aload_n 0, 1) := dk_42 (dk_at dksX1_see_1 15 rfl rfl)
theorem dX1_see_39 : decode cX1_see 39 = .ok (.getfield 30, 3) := dk_180 0 30 (dk_at dksX1_see_1 16 rfl rfl)
theorem dX1_see_42 : decode cX1_see 42 = .ok (.iconst 2, 1) := dk_5 (dk_at dksX1_see_1 19 rfl rfl)
theorem dX1_see_43 : decode cX1_see 43 = .ok (.dup2, 1) := dk_92 (dk_at dksX1_see_1 20 rfl rfl)
theorem dX1_see_44 : decode cX1_see 44 = .ok (.iaload, 1) := dk_46 (dk_at dksX1_see_1 21 rfl rfl)
theorem dX1_see_45 : decode cX1_see 45 = .ok (.iconst 1, 1) := dk_4 (dk_at dksX1_see_1 22 rfl rfl)
theorem dX1_see_46 : decode cX1_see 46 = .ok (.iadd, 1) := dk_96 (dk_at dksX1_see_1 23 rfl rfl)
theorem dX1_see_47 : decode cX1_see 47 = .ok (.iastore, 1) := dk_79 (dk_at dksX1_see_2 0 rfl rfl)
theorem dX1_see_48 : decode cX1_see 48 = .ok (.iconst (-1), 1) := dk_2 (dk_at dksX1_see_2 1 rfl rfl)
theorem dX1_see_49 : decode cX1_see 49 = .ok (.ireturn, 1) := dk_172 (dk_at dksX1_see_2 2 rfl rfl)
theorem dX1_see_50 : decode cX1_see 50 = .ok (.aload_n 0, 1) := dk_42 (dk_at dksX1_see_2 3 rfl rfl)
theorem dX1_see_51 : decode cX1_see 51 = .ok (.getfield 50, 3) := dk_180 0 50 (dk_at dksX1_see_2 4 rfl rfl)
theorem dX1_see_54 : decode cX1_see 54 = .ok (.iload_n 2, 1) := dk_28 (dk_at dksX1_see_2 7 rfl rfl)
theorem dX1_see_55 : decode cX1_see 55 = .ok (.if_icmp .eq 8, 3) := dk_159 0 8 (dk_at dksX1_see_2 8 rfl rfl)
theorem dX1_see_58 : decode cX1_see 58 = .ok (.aload_n 0, 1) := dk_42 (dk_at dksX1_see_2 11 rfl rfl)
theorem dX1_see_59 : decode cX1_see 59 = .ok (.invokevirtual 93, 3) := dk_182 0 93 (dk_at dksX1_see_2 12 rfl rfl)
theorem dX1_see_62 : decode cX1_see 62 = .ok (.pop, 1) := dk_87 (dk_at dksX1_see_2 15 rfl rfl)
theorem dX1_see_63 : decode cX1_see 63 = .ok (.aload_n 0, 1) := dk_42 (dk_at dksX1_see_2 16 rfl rfl)
theorem dX1_see_64 : decode cX1_see 64 = .ok (.iload_n 2, 1) := dk_28 (dk_at dksX1_see_2 17 rfl rfl)
theorem dX1_see_65 : decode cX1_see 65 = .ok (.putfield 50, 3) := dk_181 0 50 (dk_at dksX1_see_2 18 rfl rfl)
theorem dX1_see_68 : decode cX1_see 68 = .ok (.aload_n 0, 1) := dk_42 (dk_at dksX1_see_2 21 rfl rfl)
theorem dX1_see_69 : decode cX1_see 69 = .ok (.dup, 1) := dk_89 (dk_at dksX1_see_2 22 rfl rfl)
theorem dX1_see_70 : decode cX1_see 70 = .ok (.getfield 125, 3) := dk_180 0 125 (dk_at dksX1_see_3 0 rfl rfl)
theorem dX1_see_73 : decode cX1_see 73 = .ok (.iconst 1, 1) := dk_4 (dk_at dksX1_see_3 3 rfl rfl)
theorem dX1_see_74 : decode cX1_see 74 = .ok (.iload_n 1, 1) := dk_27 (dk_at dksX1_see_3 4 rfl rfl)
theorem dX1_see_75 : decode cX1_see 75 = .ok (.ishl, 1) := dk_120 (dk_at dksX1_see_3 5 rfl rfl)
theorem dX1_see_76 : decode cX1_see 76 = .ok (.ior, 1) := dk_128 (dk_at dksX1_see_3 6 rfl rfl)
theorem dX1_see_77 : decode cX1_see 77 = .ok (.putfield 125, 3) := dk_181 0 125 (dk_at dksX1_see_3 7 rfl rfl)
theorem dX1_see_80 : decode cX1_see 80 = .ok (.aload_n 0, 1) := dk_42 (dk_at dksX1_see_3 10 rfl rfl)
theorem dX1_see_81 : decode cX1_see 81 = .ok (.getfield 34, 3) := dk_180 0 34 (dk_at dksX1_see_3 11 rfl rfl)
theorem dX1_see_84 : decode cX1_see 84 = .ok (.iload_n 1, 1) := dk_27 (dk_at dksX1_see_3 14 rfl rfl)
theorem dX1_see_85 : decode cX1_see 85 = .ok (.iload_n 3, 1) := dk_29 (dk_at dksX1_see_3 15 rfl rfl)
theorem dX1_see_86 : decode cX1_see 86 = .ok (.iastore, 1) := dk_79 (dk_at dksX1_see_3 16 rfl rfl)
theorem dX1_see_87 : decode cX1_see 87 = .ok (.aload_n 0, 1) := dk_42 (dk_at dksX1_see_3 17 rfl rfl)
theorem dX1_see_88 : decode cX1_see 88 = .ok (.getfield 125, 3) := dk_180 0 125 (dk_at dksX1_see_3 18 rfl rfl)
theorem dX1_see_91 : decode cX1_see 91 = .ok (.invokestatic 205, 3) := dk_184 0 205 (dk_at dksX1_see_3 21 rfl rfl)
theorem dX1_see_94 : decode cX1_see 94 = .ok (.ireturn, 1) := dk_172 (dk_at dksX1_see_4 0 rfl rfl)
def dkwX1_inCase_1 : List UInt8 := [45, 27, 28, 182, 0, 227, 172]
abbrev dktX1_inCase_1 : List UInt8 := dkwX1_inCase_1 ++ []
def dkwX1_inCase_0 : List UInt8 := [42, 28, 182, 0, 169, 42, 182, 0, 220, 78, 27, 3, 45, 180, 0, 224, 4, 100, 184, 0, 128, 184, 0, 132]
abbrev dktX1_inCase_0 : List UInt8 := dkwX1_inCase_0 ++ dktX1_inCase_1
theorem dksX1_inCase_0 : cX1_inCase.data.toList.drop 0 = dktX1_inCase_0 := by decide +kernel
theorem dksX1_inCase_1 : cX1_inCase.data.toList.drop 24 = dktX1_inCase_1 := dk_seg dksX1_inCase_0 24 rfl rfl
theorem dX1_inCase_0 : decode cX1_inCase 0 = .ok (.aload_n 0, 1) := dk_42 (dk_at dksX1_inCase_0 0 rfl rfl)
theorem dX1_inCase_1 : decode cX1_inCase 1 = .ok (.iload_n 2, 1) := dk_28 (dk_at dksX1_inCase_0 1 rfl rfl)
theorem dX1_inCase_2 : decode cX1_inCase 2 = .ok (.invokevirtual 169, 3) := dk_182 0 169 (dk_at dksX1_inCase_0 2 rfl rfl)
theorem dX1_inCase_5 : decode cX1_inCase 5 = .ok (.aload_n 0, 1) := dk_42 (dk_at dksX1_inCase_0 5 rfl rfl)
theorem dX1_inCase_6 : decode cX1_inCase 6 = .ok (.invokevirtual 220, 3) := dk_182 0 220 (dk_at dksX1_inCase_0 6 rfl rfl)
theorem dX1_inCase_9 : decode cX1_inCase 9 = .ok (.astore_n 3, 1) := dk_78 (dk_at dksX1_inCase_0 9 rfl rfl)
theorem dX1_inCase_10 : decode cX1_inCase 10 = .ok (.iload_n 1, 1) := dk_27 (dk_at dksX1_inCase_0 10 rfl rfl)
theorem dX1_inCase_11 : decode cX1_inCase 11 = .ok (.iconst 0, 1) := dk_3 (dk_at dksX1_inCase_0 11 rfl rfl)
theorem dX1_inCase_12 : decode cX1_inCase 12 = .ok (.aload_n 3, 1) := dk_45 (dk_at dksX1_inCase_0 12 rfl rfl)
theorem dX1_inCase_13 : decode cX1_inCase 13 = .ok (.getfield 224, 3) := dk_180 0 224 (dk_at dksX1_inCase_0 13 rfl rfl)
theorem dX1_inCase_16 : decode cX1_inCase 16 = .ok (.iconst 1, 1) := dk_4 (dk_at dksX1_inCase_0 16 rfl rfl)
theorem dX1_inCase_17 : decode cX1_inCase 17 = .ok (.isub, 1) := dk_100 (dk_at dksX1_inCase_0 17 rfl rfl)
theorem dX1_inCase_18 : decode cX1_inCase 18 = .ok (.invokestatic 128, 3) := dk_184 0 128 (dk_at dksX1_inCase_0 18 rfl rfl)
theorem dX1_inCase_21 : decode cX1_inCase 21 = .ok (.invokestatic 132, 3) := dk_184 0 132 (dk_at dksX1_inCase_0 21 rfl rfl)
theorem dX1_inCase_24 : decode cX1_inCase 24 = .ok (.aload_n 3, 1) := dk_45 (dk_at dksX1_inCase_1 0 rfl rfl)
theorem dX1_inCase_25 : decode cX1_inCase 25 = .ok (.iload_n 1, 1) := dk_27 (dk_at dksX1_inCase_1 1 rfl rfl)
theorem dX1_inCase_26 : decode cX1_inCase 26 = .ok (.iload_n 2, 1) := dk_28 (dk_at dksX1_inCase_1 2 rfl rfl)
theorem dX1_inCase_27 : decode cX1_inCase 27 = .ok (.invokevirtual 227, 3) := dk_182 0 227 (dk_at dksX1_inCase_1 3 rfl rfl)
theorem dX1_inCase_30 : decode cX1_inCase 30 = .ok (.ireturn, 1) := dk_172 (dk_at dksX1_inCase_1 6 rfl rfl)
def dkwX1_sure_6 : List UInt8 := [27, 154, 0, 7, 29, 167, 0, 15, 27, 4, 160, 0, 8, 21, 4, 167, 0, 5, 21, 5, 172]
abbrev dktX1_sure_6 : List UInt8 := dkwX1_sure_6 ++ []
def dkwX1_sure_5 : List UInt8 := [21, 9, 21, 6, 161, 0, 6, 167, 0, 11, 21, 7, 54, 5, 21, 9, 54, 6, 132, 7, 1, 167, 255, 158]
abbrev dktX1_sure_5 : List UInt8 := dkwX1_sure_5 ++ dktX1_sure_6
def dkwX1_sure_4 : List UInt8 := [128, 54, 4, 21, 8, 44, 180, 0, 224, 21, 8, 100, 184, 0, 212, 54, 9, 21, 5, 2, 159, 0, 13]
abbrev dktX1_sure_4 : List UInt8 := dkwX1_sure_4 ++ dktX1_sure_5
def dkwX1_sure_3 : List UInt8 := [180, 0, 224, 160, 0, 10, 29, 4, 21, 7, 120, 128, 62, 21, 8, 154, 0, 12, 21, 4, 4, 21, 7, 120]
abbrev dktX1_sure_3 : List UInt8 := dkwX1_sure_3 ++ dktX1_sure_4
def dkwX1_sure_2 : List UInt8 := [180, 0, 116, 162, 0, 92, 44, 180, 0, 224, 158, 0, 85, 44, 21, 7, 182, 0, 230, 54, 8, 21, 8, 44]
abbrev dktX1_sure_2 : List UInt8 := dkwX1_sure_2 ++ dktX1_sure_3
def dkwX1_sure_1 : List UInt8 := [16, 254, 172, 3, 62, 3, 54, 4, 2, 54, 5, 3, 54, 6, 3, 54, 7, 21, 7, 42, 180, 0, 16]
abbrev dktX1_sure_1 : List UInt8 := dkwX1_sure_1 ++ dktX1_sure_2
def dkwX1_sure_0 : List UInt8 := [27, 3, 5, 184, 0, 128, 184, 0, 132, 42, 182, 0, 220, 77, 44, 180, 0, 224, 16, 254, 160, 0, 6]
abbrev dktX1_sure_0 : List UInt8 := dkwX1_sure_0 ++ dktX1_sure_1
theorem dksX1_sure_0 : cX1_sure.data.toList.drop 0 = dktX1_sure_0 := by decide +kernel
theorem dksX1_sure_1 : cX1_sure.data.toList.drop 23 = dktX1_sure_1 := dk_seg dksX1_sure_0 23 rfl rfl
theorem dksX1_sure_2 : cX1_sure.data.toList.drop 46 = dktX1_sure_2 := dk_seg dksX1_sure_1 23 rfl rfl
theorem dksX1_sure_3 : cX1_sure.data.toList.drop 70 = dktX1_sure_3 := dk_seg dksX1_sure_2 24 rfl rfl
theorem dksX1_sure_4 : cX1_sure.data.toList.drop 94 = dktX1_sure_4 := dk_seg dksX1_sure_3 24 rfl rfl
theorem dksX1_sure_5 : cX1_sure.data.toList.drop 117 = dktX1_sure_5 := dk_seg dksX1_sure_4 23 rfl rfl
theorem dksX1_sure_6 : cX1_sure.data.toList.drop 141 = dktX1_sure_6 := dk_seg dksX1_sure_5 24 rfl rfl
theorem dX1_sure_0 : decode cX1_sure 0 = .ok (.iload_n 1, 1) := dk_27 (dk_at dksX1_sure_0 0 rfl rfl)
theorem dX1_sure_1 : decode cX1_sure 1 = .ok (.iconst 0, 1) := dk_3 (dk_at dksX1_sure_0 1 rfl rfl)
theorem dX1_sure_2 : decode cX1_sure 2 = .ok (.iconst 2, 1) := dk_5 (dk_at dksX1_sure_0 2 rfl rfl)
theorem dX1_sure_3 : decode cX1_sure 3 = .ok (.invokestatic 128, 3) := dk_184 0 128 (dk_at dksX1_sure_0 3 rfl rfl)
theorem dX1_sure_6 : decode cX1_sure 6 = .ok (.invokestatic 132, 3) := dk_184 0 132 (dk_at dksX1_sure_0 6 rfl rfl)
theorem dX1_sure_9 : decode cX1_sure 9 = .ok (.aload_n 0, 1) := dk_42 (dk_at dksX1_sure_0 9 rfl rfl)
theorem dX1_sure_10 : decode cX1_sure 10 = .ok (.invokevirtual 220, 3) := dk_182 0 220 (dk_at dksX1_sure_0 10 rfl rfl)
theorem dX1_sure_13 : decode cX1_sure 13 = .ok (.astore_n 2, 1) := dk_77 (dk_at dksX1_sure_0 13 rfl rfl)
theorem dX1_sure_14 : decode cX1_sure 14 = .ok (.aload_n 2, 1) := dk_44 (dk_at dksX1_sure_0 14 rfl rfl)
theorem dX1_sure_15 : decode cX1_sure 15 = .ok (.getfield 224, 3) := dk_180 0 224 (dk_at dksX1_sure_0 15 rfl rfl)
theorem dX1_sure_18 : decode cX1_sure 18 = .ok (.bipush (-2), 2) := dk_16 254 (dk_at dksX1_sure_0 18 rfl rfl)
theorem dX1_sure_20 : decode cX1_sure 20 = .ok (.if_icmp .ne 6, 3) := dk_160 0 6 (dk_at dksX1_sure_0 20 rfl rfl)
theorem dX1_sure_23 : decode cX1_sure 23 = .ok (.bipush (-2), 2) := dk_16 254 (dk_at dksX1_sure_1 0 rfl rfl)
theorem dX1_sure_25 : decode cX1_sure 25 = .ok (.ireturn, 1) := dk_172 (dk_at dksX1_sure_1 2 rfl rfl)
theorem dX1_sure_26 : decode cX1_sure 26 = .ok (.iconst 0, 1) := dk_3 (dk_at dksX1_sure_1 3 rfl rfl)
theorem dX1_sure_27 : decode cX1_sure 27 = .ok (.istore_n 3, 1) := dk_62 (dk_at dksX1_sure_1 4 rfl rfl)
theorem dX1_sure_28 : decode cX1_sure 28 = .ok (.iconst 0, 1) := dk_3 (dk_at dksX1_sure_1 5 rfl rfl)
theorem dX1_sure_29 : decode cX1_sure 29 = .ok (.istore 4, 2) := dk_54 4 (dk_at dksX1_sure_1 6 rfl rfl)
theorem dX1_sure_31 : decode cX1_sure 31 = .ok (.iconst (-1), 1) := dk_2 (dk_at dksX1_sure_1 8 rfl rfl)
theorem dX1_sure_32 : decode cX1_sure 32 = .ok (.istore 5, 2) := dk_54 5 (dk_at dksX1_sure_1 9 rfl rfl)
theorem dX1_sure_34 : decode cX1_sure 34 = .ok (.iconst 0, 1) := dk_3 (dk_at dksX1_sure_1 11 rfl rfl)
theorem dX1_sure_35 : decode cX1_sure 35 = .ok (.istore 6, 2) := dk_54 6 (dk_at dksX1_sure_1 12 rfl rfl)
theorem dX1_sure_37 : decode cX1_sure 37 = .ok (.iconst 0, 1) := dk_3 (dk_at dksX1_sure_1 14 rfl rfl)
theorem dX1_sure_38 : decode cX1_sure 38 = .ok (.istore 7, 2) := dk_54 7 (dk_at dksX1_sure_1 15 rfl rfl)
theorem dX1_sure_40 : decode cX1_sure 40 = .ok (.iload 7, 2) := dk_21 7 (dk_at dksX1_sure_1 17 rfl rfl)
theorem dX1_sure_42 : decode cX1_sure 42 = .ok (.aload_n 0, 1) := dk_42 (dk_at dksX1_sure_1 19 rfl rfl)
theorem dX1_sure_43 : decode cX1_sure 43 = .ok (.getfield 16, 3) := dk_180 0 16 (dk_at dksX1_sure_1 20 rfl rfl)
theorem dX1_sure_46 : decode cX1_sure 46 = .ok (.getfield 116, 3) := dk_180 0 116 (dk_at dksX1_sure_2 0 rfl rfl)
theorem dX1_sure_49 : decode cX1_sure 49 = .ok (.if_icmp .ge 92, 3) := dk_162 0 92 (dk_at dksX1_sure_2 3 rfl rfl)
theorem dX1_sure_52 : decode cX1_sure 52 = .ok (.aload_n 2, 1) := dk_44 (dk_at dksX1_sure_2 6 rfl rfl)
theorem dX1_sure_53 : decode cX1_sure 53 = .ok (.getfield 224, 3) := dk_180 0 224 (dk_at dksX1_sure_2 7 rfl rfl)
theorem dX1_sure_56 : decode cX1_sure 56 = .ok (.ifCond .le 85, 3) := dk_158 0 85 (dk_at dksX1_sure_2 10 rfl rfl)
theorem dX1_sure_59 : decode cX1_sure 59 = .ok (.aload_n 2, 1) := dk_44 (dk_at dksX1_sure_2 13 rfl rfl)
theorem dX1_sure_60 : decode cX1_sure 60 = .ok (.iload 7, 2) := dk_21 7 (dk_at dksX1_sure_2 14 rfl rfl)
theorem dX1_sure_62 : decode cX1_sure 62 = .ok (.invokevirtual 230, 3) := dk_182 0 230 (dk_at dksX1_sure_2 16 rfl rfl)
theorem dX1_sure_65 : decode cX1_sure 65 = .ok (.istore 8, 2) := dk_54 8 (dk_at dksX1_sure_2 19 rfl rfl)
theorem dX1_sure_67 : decode cX1_sure 67 = .ok (.iload 8, 2) := dk_21 8 (dk_at dksX1_sure_2 21 rfl rfl)
theorem dX1_sure_69 : decode cX1_sure 69 = .ok (.aload_n 2, 1) := dk_44 (dk_at dksX1_sure_2 23 rfl rfl)
theorem dX1_sure_70 : decode cX1_sure 70 = .ok (.getfield 224, 3) := dk_180 0 224 (dk_at dksX1_sure_3 0 rfl rfl)
theorem dX1_sure_73 : decode cX1_sure 73 = .ok (.if_icmp .ne 10, 3) := dk_160 0 10 (dk_at dksX1_sure_3 3 rfl rfl)
theorem dX1_sure_76 : decode cX1_sure 76 = .ok (.iload_n 3, 1) := dk_29 (dk_at dksX1_sure_3 6 rfl rfl)
theorem dX1_sure_77 : decode cX1_sure 77 = .ok (.iconst 1, 1) := dk_4 (dk_at dksX1_sure_3 7 rfl rfl)
theorem dX1_sure_78 : decode cX1_sure 78 = .ok (.iload 7, 2) := dk_21 7 (dk_at dksX1_sure_3 8 rfl rfl)
theorem dX1_sure_80 : decode cX1_sure 80 = .ok (.ishl, 1) := dk_120 (dk_at dksX1_sure_3 10 rfl rfl)
theorem dX1_sure_81 : decode cX1_sure 81 = .ok (.ior, 1) := dk_128 (dk_at dksX1_sure_3 11 rfl rfl)
theorem dX1_sure_82 : decode cX1_sure 82 = .ok (.istore_n 3, 1) := dk_62 (dk_at dksX1_sure_3 12 rfl rfl)
theorem dX1_sure_83 : decode cX1_sure 83 = .ok (.iload 8, 2) := dk_21 8 (dk_at dksX1_sure_3 13 rfl rfl)
theorem dX1_sure_85 : decode cX1_sure 85 = .ok (.ifCond .ne 12, 3) := dk_154 0 12 (dk_at dksX1_sure_3 15 rfl rfl)
theorem dX1_sure_88 : decode cX1_sure 88 = .ok (.iload 4, 2) := dk_21 4 (dk_at dksX1_sure_3 18 rfl rfl)
theorem dX1_sure_90 : decode cX1_sure 90 = .ok (.iconst 1, 1) := dk_4 (dk_at dksX1_sure_3 20 rfl rfl)
theorem dX1_sure_91 : decode cX1_sure 91 = .ok (.iload 7, 2) := dk_21 7 (dk_at dksX1_sure_3 21 rfl rfl)
theorem dX1_sure_93 : decode cX1_sure 93 = .ok (.ishl, 1) := dk_120 (dk_at dksX1_sure_3 23 rfl rfl)
theorem dX1_sure_94 : decode cX1_sure 94 = .ok (.ior, 1) := dk_128 (dk_at dksX1_sure_4 0 rfl rfl)
theorem dX1_sure_95 : decode cX1_sure 95 = .ok (.istore 4, 2) := dk_54 4 (dk_at dksX1_sure_4 1 rfl rfl)
theorem dX1_sure_97 : decode cX1_sure 97 = .ok (.iload 8, 2) := dk_21 8 (dk_at dksX1_sure_4 3 rfl rfl)
theorem dX1_sure_99 : decode cX1_sure 99 = .ok (.aload_n 2, 1) := dk_44 (dk_at dksX1_sure_4 5 rfl rfl)
theorem dX1_sure_100 : decode cX1_sure 100 = .ok (.getfield 224, 3) := dk_180 0 224 (dk_at dksX1_sure_4 6 rfl rfl)
theorem dX1_sure_103 : decode cX1_sure 103 = .ok (.iload 8, 2) := dk_21 8 (dk_at dksX1_sure_4 9 rfl rfl)
theorem dX1_sure_105 : decode cX1_sure 105 = .ok (.isub, 1) := dk_100 (dk_at dksX1_sure_4 11 rfl rfl)
theorem dX1_sure_106 : decode cX1_sure 106 = .ok (.invokestatic 212, 3) := dk_184 0 212 (dk_at dksX1_sure_4 12 rfl rfl)
theorem dX1_sure_109 : decode cX1_sure 109 = .ok (.istore 9, 2) := dk_54 9 (dk_at dksX1_sure_4 15 rfl rfl)
theorem dX1_sure_111 : decode cX1_sure 111 = .ok (.iload 5, 2) := dk_21 5 (dk_at dksX1_sure_4 17 rfl rfl)
theorem dX1_sure_113 : decode cX1_sure 113 = .ok (.iconst (-1), 1) := dk_2 (dk_at dksX1_sure_4 19 rfl rfl)
theorem dX1_sure_114 : decode cX1_sure 114 = .ok (.if_icmp .eq 13, 3) := dk_159 0 13 (dk_at dksX1_sure_4 20 rfl rfl)
theorem dX1_sure_117 : decode cX1_sure 117 = .ok (.iload 9, 2) := dk_21 9 (dk_at dksX1_sure_5 0 rfl rfl)
theorem dX1_sure_119 : decode cX1_sure 119 = .ok (.iload 6, 2) := dk_21 6 (dk_at dksX1_sure_5 2 rfl rfl)
theorem dX1_sure_121 : decode cX1_sure 121 = .ok (.if_icmp .lt 6, 3) := dk_161 0 6 (dk_at dksX1_sure_5 4 rfl rfl)
theorem dX1_sure_124 : decode cX1_sure 124 = .ok (.goto 11, 3) := dk_167 0 11 (dk_at dksX1_sure_5 7 rfl rfl)
theorem dX1_sure_127 : decode cX1_sure 127 = .ok (.iload 7, 2) := dk_21 7 (dk_at dksX1_sure_5 10 rfl rfl)
theorem dX1_sure_129 : decode cX1_sure 129 = .ok (.istore 5, 2) := dk_54 5 (dk_at dksX1_sure_5 12 rfl rfl)
theorem dX1_sure_131 : decode cX1_sure 131 = .ok (.iload 9, 2) := dk_21 9 (dk_at dksX1_sure_5 14 rfl rfl)
theorem dX1_sure_133 : decode cX1_sure 133 = .ok (.istore 6, 2) := dk_54 6 (dk_at dksX1_sure_5 16 rfl rfl)
theorem dX1_sure_135 : decode cX1_sure 135 = .ok (.iinc 7 1, 3) := dk_132 7 1 (dk_at dksX1_sure_5 18 rfl rfl)
theorem dX1_sure_138 : decode cX1_sure 138 = .ok (.goto (-98), 3) := dk_167 255 158 (dk_at dksX1_sure_5 21 rfl rfl)
theorem dX1_sure_141 : decode cX1_sure 141 = .ok (.iload_n 1, 1) := dk_27 (dk_at dksX1_sure_6 0 rfl rfl)
theorem dX1_sure_142 : decode cX1_sure 142 = .ok (.ifCond .ne 7, 3) := dk_154 0 7 (dk_at dksX1_sure_6 1 rfl rfl)
theorem dX1_sure_145 : decode cX1_sure 145 = .ok (.iload_n 3, 1) := dk_29 (dk_at dksX1_sure_6 4 rfl rfl)
theorem dX1_sure_146 : decode cX1_sure 146 = .ok (.goto 15, 3) := dk_167 0 15 (dk_at dksX1_sure_6 5 rfl rfl)
theorem dX1_sure_149 : decode cX1_sure 149 = .ok (.iload_n 1, 1) := dk_27 (dk_at dksX1_sure_6 8 rfl rfl)
theorem dX1_sure_150 : decode cX1_sure 150 = .ok (.iconst 1, 1) := dk_4 (dk_at dksX1_sure_6 9 rfl rfl)
theorem dX1_sure_151 : decode cX1_sure 151 = .ok (.if_icmp .ne 8, 3) := dk_160 0 8 (dk_at dksX1_sure_6 10 rfl rfl)
theorem dX1_sure_154 : decode cX1_sure 154 = .ok (.iload 4, 2) := dk_21 4 (dk_at dksX1_sure_6 13 rfl rfl)
theorem dX1_sure_156 : decode cX1_sure 156 = .ok (.goto 5, 3) := dk_167 0 5 (dk_at dksX1_sure_6 15 rfl rfl)
theorem dX1_sure_159 : decode cX1_sure 159 = .ok (.iload 5, 2) := dk_21 5 (dk_at dksX1_sure_6 18 rfl rfl)
theorem dX1_sure_161 : decode cX1_sure 161 = .ok (.ireturn, 1) := dk_172 (dk_at dksX1_sure_6 20 rfl rfl)
def dkwX1_where_3 : List UInt8 := [4, 21, 5, 120, 128, 62, 132, 4, 1, 167, 255, 202, 29, 172]
abbrev dktX1_where_3 : List UInt8 := dkwX1_where_3 ++ []
def dkwX1_where_2 : List UInt8 := [182, 0, 81, 44, 180, 0, 233, 27, 50, 21, 4, 46, 182, 0, 237, 54, 5, 21, 5, 2, 159, 0, 10, 29]
abbrev dktX1_where_2 : List UInt8 := dkwX1_where_2 ++ dktX1_where_3
def dkwX1_where_1 : List UInt8 := [3, 54, 4, 21, 4, 44, 180, 0, 233, 27, 50, 190, 162, 0, 48, 44, 180, 0, 224, 158, 0, 41, 42, 27]
abbrev dktX1_where_1 : List UInt8 := dkwX1_where_1 ++ dktX1_where_2
def dkwX1_where_0 : List UInt8 := [42, 27, 182, 0, 169, 42, 182, 0, 220, 77, 44, 180, 0, 224, 16, 254, 160, 0, 6, 16, 254, 172, 3, 62]
abbrev dktX1_where_0 : List UInt8 := dkwX1_where_0 ++ dktX1_where_1
theorem dksX1_where_0 : cX1_where.data.toList.drop 0 = dktX1_where_0 := by decide +kernel
theorem dksX1_where_1 : cX1_where.data.toList.drop 24 = dktX1_where_1 := dk_seg dksX1_where_0 24 rfl rfl
theorem dksX1_where_2 : cX1_where.data.toList.drop 48 = dktX1_where_2 := dk_seg dksX1_where_1 24 rfl rfl
theorem dksX1_where_3 : cX1_where.data.toList.drop 72 = dktX1_where_3 := dk_seg dksX1_where_2 24 rfl rfl
theorem dX1_where_0 : decode cX1_where 0 = .ok (.aload_n 0, 1) := dk_42 (dk_at dksX1_where_0 0 rfl rfl)
theorem dX1_where_1 : decode cX1_where 1 = .ok (.iload_n 1, 1) := dk_27 (dk_at dksX1_where_0 1 rfl rfl)
theorem dX1_where_2 : decode cX1_where 2 = .ok (.invokevirtual 169, 3) := dk_182 0 169 (dk_at dksX1_where_0 2 rfl rfl)
theorem dX1_where_5 : decode cX1_where 5 = .ok (.aload_n 0, 1) := dk_42 (dk_at dksX1_where_0 5 rfl rfl)
theorem dX1_where_6 : decode cX1_where 6 = .ok (.invokevirtual 220, 3) := dk_182 0 220 (dk_at dksX1_where_0 6 rfl rfl)
theorem dX1_where_9 : decode cX1_where 9 = .ok (.astore_n 2, 1) := dk_77 (dk_at dksX1_where_0 9 rfl rfl)
theorem dX1_where_10 : decode cX1_where 10 = .ok (.aload_n 2, 1) := dk_44 (dk_at dksX1_where_0 10 rfl rfl)
theorem dX1_where_11 : decode cX1_where 11 = .ok (.getfield 224, 3) := dk_180 0 224 (dk_at dksX1_where_0 11 rfl rfl)
theorem dX1_where_14 : decode cX1_where 14 = .ok (.bipush (-2), 2) := dk_16 254 (dk_at dksX1_where_0 14 rfl rfl)
theorem dX1_where_16 : decode cX1_where 16 = .ok (.if_icmp .ne 6, 3) := dk_160 0 6 (dk_at dksX1_where_0 16 rfl rfl)
theorem dX1_where_19 : decode cX1_where 19 = .ok (.bipush (-2), 2) := dk_16 254 (dk_at dksX1_where_0 19 rfl rfl)
theorem dX1_where_21 : decode cX1_where 21 = .ok (.ireturn, 1) := dk_172 (dk_at dksX1_where_0 21 rfl rfl)
theorem dX1_where_22 : decode cX1_where 22 = .ok (.iconst 0, 1) := dk_3 (dk_at dksX1_where_0 22 rfl rfl)
theorem dX1_where_23 : decode cX1_where 23 = .ok (.istore_n 3, 1) := dk_62 (dk_at dksX1_where_0 23 rfl rfl)
theorem dX1_where_24 : decode cX1_where 24 = .ok (.iconst 0, 1) := dk_3 (dk_at dksX1_where_1 0 rfl rfl)
theorem dX1_where_25 : decode cX1_where 25 = .ok (.istore 4, 2) := dk_54 4 (dk_at dksX1_where_1 1 rfl rfl)
theorem dX1_where_27 : decode cX1_where 27 = .ok (.iload 4, 2) := dk_21 4 (dk_at dksX1_where_1 3 rfl rfl)
theorem dX1_where_29 : decode cX1_where 29 = .ok (.aload_n 2, 1) := dk_44 (dk_at dksX1_where_1 5 rfl rfl)
theorem dX1_where_30 : decode cX1_where 30 = .ok (.getfield 233, 3) := dk_180 0 233 (dk_at dksX1_where_1 6 rfl rfl)
theorem dX1_where_33 : decode cX1_where 33 = .ok (.iload_n 1, 1) := dk_27 (dk_at dksX1_where_1 9 rfl rfl)
theorem dX1_where_34 : decode cX1_where 34 = .ok (.aaload, 1) := dk_50 (dk_at dksX1_where_1 10 rfl rfl)
theorem dX1_where_35 : decode cX1_where 35 = .ok (.arraylength, 1) := dk_190 (dk_at dksX1_where_1 11 rfl rfl)
theorem dX1_where_36 : decode cX1_where 36 = .ok (.if_icmp .ge 48, 3) := dk_162 0 48 (dk_at dksX1_where_1 12 rfl rfl)
theorem dX1_where_39 : decode cX1_where 39 = .ok (.aload_n 2, 1) := dk_44 (dk_at dksX1_where_1 15 rfl rfl)
theorem dX1_where_40 : decode cX1_where 40 = .ok (.getfield 224, 3) := dk_180 0 224 (dk_at dksX1_where_1 16 rfl rfl)
theorem dX1_where_43 : decode cX1_where 43 = .ok (.ifCond .le 41, 3) := dk_158 0 41 (dk_at dksX1_where_1 19 rfl rfl)
theorem dX1_where_46 : decode cX1_where 46 = .ok (.aload_n 0, 1) := dk_42 (dk_at dksX1_where_1 22 rfl rfl)
theorem dX1_where_47 : decode cX1_where 47 = .ok (.iload_n 1, 1) := dk_27 (dk_at dksX1_where_1 23 rfl rfl)
theorem dX1_where_48 : decode cX1_where 48 = .ok (.invokevirtual 81, 3) := dk_182 0 81 (dk_at dksX1_where_2 0 rfl rfl)
theorem dX1_where_51 : decode cX1_where 51 = .ok (.aload_n 2, 1) := dk_44 (dk_at dksX1_where_2 3 rfl rfl)
theorem dX1_where_52 : decode cX1_where 52 = .ok (.getfield 233, 3) := dk_180 0 233 (dk_at dksX1_where_2 4 rfl rfl)
theorem dX1_where_55 : decode cX1_where 55 = .ok (.iload_n 1, 1) := dk_27 (dk_at dksX1_where_2 7 rfl rfl)
theorem dX1_where_56 : decode cX1_where 56 = .ok (.aaload, 1) := dk_50 (dk_at dksX1_where_2 8 rfl rfl)
theorem dX1_where_57 : decode cX1_where 57 = .ok (.iload 4, 2) := dk_21 4 (dk_at dksX1_where_2 9 rfl rfl)
theorem dX1_where_59 : decode cX1_where 59 = .ok (.iaload, 1) := dk_46 (dk_at dksX1_where_2 11 rfl rfl)
theorem dX1_where_60 : decode cX1_where 60 = .ok (.invokevirtual 237, 3) := dk_182 0 237 (dk_at dksX1_where_2 12 rfl rfl)
theorem dX1_where_63 : decode cX1_where 63 = .ok (.istore 5, 2) := dk_54 5 (dk_at dksX1_where_2 15 rfl rfl)
theorem dX1_where_65 : decode cX1_where 65 = .ok (.iload 5, 2) := dk_21 5 (dk_at dksX1_where_2 17 rfl rfl)
theorem dX1_where_67 : decode cX1_where 67 = .ok (.iconst (-1), 1) := dk_2 (dk_at dksX1_where_2 19 rfl rfl)
theorem dX1_where_68 : decode cX1_where 68 = .ok (.if_icmp .eq 10, 3) := dk_159 0 10 (dk_at dksX1_where_2 20 rfl rfl)
theorem dX1_where_71 : decode cX1_where 71 = .ok (.iload_n 3, 1) := dk_29 (dk_at dksX1_where_2 23 rfl rfl)
theorem dX1_where_72 : decode cX1_where 72 = .ok (.iconst 1, 1) := dk_4 (dk_at dksX1_where_3 0 rfl rfl)
theorem dX1_where_73 : decode cX1_where 73 = .ok (.iload 5, 2) := dk_21 5 (dk_at dksX1_where_3 1 rfl rfl)
theorem dX1_where_75 : decode cX1_where 75 = .ok (.ishl, 1) := dk_120 (dk_at dksX1_where_3 3 rfl rfl)
theorem dX1_where_76 : decode cX1_where 76 = .ok (.ior, 1) := dk_128 (dk_at dksX1_where_3 4 rfl rfl)
theorem dX1_where_77 : decode cX1_where 77 = .ok (.istore_n 3, 1) := dk_62 (dk_at dksX1_where_3 5 rfl rfl)
theorem dX1_where_78 : decode cX1_where 78 = .ok (.iinc 4 1, 3) := dk_132 4 1 (dk_at dksX1_where_3 6 rfl rfl)
theorem dX1_where_81 : decode cX1_where 81 = .ok (.goto (-54), 3) := dk_167 255 202 (dk_at dksX1_where_3 9 rfl rfl)
theorem dX1_where_84 : decode cX1_where 84 = .ok (.iload_n 3, 1) := dk_29 (dk_at dksX1_where_3 12 rfl rfl)
theorem dX1_where_85 : decode cX1_where 85 = .ok (.ireturn, 1) := dk_172 (dk_at dksX1_where_3 13 rfl rfl)
def dkwX1_misled_1 : List UInt8 := [155, 0, 8, 29, 4, 160, 0, 8, 21, 4, 167, 0, 8, 21, 4, 184, 0, 205, 172]
abbrev dktX1_misled_1 : List UInt8 := dkwX1_misled_1 ++ []
def dkwX1_misled_0 : List UInt8 := [42, 27, 182, 0, 138, 28, 184, 0, 175, 29, 184, 0, 142, 42, 27, 28, 182, 0, 248, 54, 4, 21, 4]
abbrev dktX1_misled_0 : List UInt8 := dkwX1_misled_0 ++ dktX1_misled_1
theorem dksX1_misled_0 : cX1_misled.data.toList.drop 0 = dktX1_misled_0 := by decide +kernel
theorem dksX1_misled_1 : cX1_misled.data.toList.drop 23 = dktX1_misled_1 := dk_seg dksX1_misled_0 23 rfl rfl
theorem dX1_misled_0 : decode cX1_misled 0 = .ok (.aload_n 0, 1) := dk_42 (dk_at dksX1_misled_0 0 rfl rfl)
theorem dX1_misled_1 : decode cX1_misled 1 = .ok (.iload_n 1, 1) := dk_27 (dk_at dksX1_misled_0 1 rfl rfl)
theorem dX1_misled_2 : decode cX1_misled 2 = .ok (.invokevirtual 138, 3) := dk_182 0 138 (dk_at dksX1_misled_0 2 rfl rfl)
theorem dX1_misled_5 : decode cX1_misled 5 = .ok (.iload_n 2, 1) := dk_28 (dk_at dksX1_misled_0 5 rfl rfl)
theorem dX1_misled_6 : decode cX1_misled 6 = .ok (.invokestatic 175, 3) := dk_184 0 175 (dk_at dksX1_misled_0 6 rfl rfl)
theorem dX1_misled_9 : decode cX1_misled 9 = .ok (.iload_n 3, 1) := dk_29 (dk_at dksX1_misled_0 9 rfl rfl)
theorem dX1_misled_10 : decode cX1_misled 10 = .ok (.invokestatic 142, 3) := dk_184 0 142 (dk_at dksX1_misled_0 10 rfl rfl)
theorem dX1_misled_13 : decode cX1_misled 13 = .ok (.aload_n 0, 1) := dk_42 (dk_at dksX1_misled_0 13 rfl rfl)
theorem dX1_misled_14 : decode cX1_misled 14 = .ok (.iload_n 1, 1) := dk_27 (dk_at dksX1_misled_0 14 rfl rfl)
theorem dX1_misled_15 : decode cX1_misled 15 = .ok (.iload_n 2, 1) := dk_28 (dk_at dksX1_misled_0 15 rfl rfl)
theorem dX1_misled_16 : decode cX1_misled 16 = .ok (.invokevirtual 248, 3) := dk_182 0 248 (dk_at dksX1_misled_0 16 rfl rfl)
theorem dX1_misled_19 : decode cX1_misled 19 = .ok (.istore 4, 2) := dk_54 4 (dk_at dksX1_misled_0 19 rfl rfl)
theorem dX1_misled_21 : decode cX1_misled 21 = .ok (.iload 4, 2) := dk_21 4 (dk_at dksX1_misled_0 21 rfl rfl)
theorem dX1_misled_23 : decode cX1_misled 23 = .ok (.ifCond .lt 8, 3) := dk_155 0 8 (dk_at dksX1_misled_1 0 rfl rfl)
theorem dX1_misled_26 : decode cX1_misled 26 = .ok (.iload_n 3, 1) := dk_29 (dk_at dksX1_misled_1 3 rfl rfl)
theorem dX1_misled_27 : decode cX1_misled 27 = .ok (.iconst 1, 1) := dk_4 (dk_at dksX1_misled_1 4 rfl rfl)
theorem dX1_misled_28 : decode cX1_misled 28 = .ok (.if_icmp .ne 8, 3) := dk_160 0 8 (dk_at dksX1_misled_1 5 rfl rfl)
theorem dX1_misled_31 : decode cX1_misled 31 = .ok (.iload 4, 2) := dk_21 4 (dk_at dksX1_misled_1 8 rfl rfl)
theorem dX1_misled_33 : decode cX1_misled 33 = .ok (.goto 8, 3) := dk_167 0 8 (dk_at dksX1_misled_1 10 rfl rfl)
theorem dX1_misled_36 : decode cX1_misled 36 = .ok (.iload 4, 2) := dk_21 4 (dk_at dksX1_misled_1 13 rfl rfl)
theorem dX1_misled_38 : decode cX1_misled 38 = .ok (.invokestatic 205, 3) := dk_184 0 205 (dk_at dksX1_misled_1 15 rfl rfl)
theorem dX1_misled_41 : decode cX1_misled 41 = .ok (.ireturn, 1) := dk_172 (dk_at dksX1_misled_1 18 rfl rfl)
def dkwX1_liars_7 : List UInt8 := [153, 0, 7, 29, 167, 0, 19, 21, 4, 2, 160, 0, 7, 2, 167, 0, 9, 29, 4, 21, 4, 120, 128, 172]
abbrev dktX1_liars_7 : List UInt8 := dkwX1_liars_7 ++ []
def dkwX1_liars_6 : List UInt8 := [21, 6, 28, 27, 4, 182, 0, 244, 153, 0, 7, 21, 6, 54, 4, 132, 6, 1, 167, 255, 133, 21, 5]
abbrev dktX1_liars_6 : List UInt8 := dkwX1_liars_6 ++ dktX1_liars_7
def dkwX1_liars_5 : List UInt8 := [21, 5, 21, 7, 6, 160, 0, 7, 4, 167, 0, 4, 3, 128, 54, 5, 21, 4, 2, 160, 0, 19, 42]
abbrev dktX1_liars_5 : List UInt8 := dkwX1_liars_5 ++ dktX1_liars_6
def dkwX1_liars_4 : List UInt8 := [4, 21, 6, 120, 128, 62, 21, 5, 42, 21, 6, 28, 27, 4, 182, 0, 244, 128, 54, 5, 167, 0, 41]
abbrev dktX1_liars_4 : List UInt8 := dkwX1_liars_4 ++ dktX1_liars_5
def dkwX1_liars_3 : List UInt8 := [54, 7, 21, 7, 4, 126, 154, 0, 41, 42, 21, 6, 28, 27, 3, 182, 0, 244, 154, 0, 5, 2, 172, 29]
abbrev dktX1_liars_3 : List UInt8 := dkwX1_liars_3 ++ dktX1_liars_4
def dkwX1_liars_2 : List UInt8 := [28, 42, 21, 6, 42, 180, 0, 44, 16, 24, 21, 6, 104, 28, 96, 46, 182, 0, 184, 27, 182, 0, 240]
abbrev dktX1_liars_2 : List UInt8 := dkwX1_liars_2 ++ dktX1_liars_3
def dkwX1_liars_1 : List UInt8 := [172, 3, 62, 2, 54, 4, 3, 54, 5, 3, 54, 6, 21, 6, 42, 182, 0, 77, 162, 0, 120, 42, 21, 6]
abbrev dktX1_liars_1 : List UInt8 := dkwX1_liars_1 ++ dktX1_liars_2
def dkwX1_liars_0 : List UInt8 := [187, 0, 210, 89, 42, 28, 3, 42, 180, 0, 34, 183, 0, 217, 180, 0, 224, 16, 254, 160, 0, 6, 16, 254]
abbrev dktX1_liars_0 : List UInt8 := dkwX1_liars_0 ++ dktX1_liars_1
theorem dksX1_liars_0 : cX1_liars.data.toList.drop 0 = dktX1_liars_0 := by decide +kernel
theorem dksX1_liars_1 : cX1_liars.data.toList.drop 24 = dktX1_liars_1 := dk_seg dksX1_liars_0 24 rfl rfl
theorem dksX1_liars_2 : cX1_liars.data.toList.drop 48 = dktX1_liars_2 := dk_seg dksX1_liars_1 24 rfl rfl
theorem dksX1_liars_3 : cX1_liars.data.toList.drop 71 = dktX1_liars_3 := dk_seg dksX1_liars_2 23 rfl rfl
theorem dksX1_liars_4 : cX1_liars.data.toList.drop 95 = dktX1_liars_4 := dk_seg dksX1_liars_3 24 rfl rfl
theorem dksX1_liars_5 : cX1_liars.data.toList.drop 118 = dktX1_liars_5 := dk_seg dksX1_liars_4 23 rfl rfl
theorem dksX1_liars_6 : cX1_liars.data.toList.drop 141 = dktX1_liars_6 := dk_seg dksX1_liars_5 23 rfl rfl
theorem dksX1_liars_7 : cX1_liars.data.toList.drop 164 = dktX1_liars_7 := dk_seg dksX1_liars_6 23 rfl rfl
theorem dX1_liars_0 : decode cX1_liars 0 = .ok (.new 210, 3) := dk_187 0 210 (dk_at dksX1_liars_0 0 rfl rfl)
theorem dX1_liars_3 : decode cX1_liars 3 = .ok (.dup, 1) := dk_89 (dk_at dksX1_liars_0 3 rfl rfl)
theorem dX1_liars_4 : decode cX1_liars 4 = .ok (.aload_n 0, 1) := dk_42 (dk_at dksX1_liars_0 4 rfl rfl)
theorem dX1_liars_5 : decode cX1_liars 5 = .ok (.iload_n 2, 1) := dk_28 (dk_at dksX1_liars_0 5 rfl rfl)
theorem dX1_liars_6 : decode cX1_liars 6 = .ok (.iconst 0, 1) := dk_3 (dk_at dksX1_liars_0 6 rfl rfl)
theorem dX1_liars_7 : decode cX1_liars 7 = .ok (.aload_n 0, 1) := dk_42 (dk_at dksX1_liars_0 7 rfl rfl)
theorem dX1_liars_8 : decode cX1_liars 8 = .ok (.getfield 34, 3) := dk_180 0 34 (dk_at dksX1_liars_0 8 rfl rfl)
theorem dX1_liars_11 : decode cX1_liars 11 = .ok (.invokespecial 217, 3) := dk_183 0 217 (dk_at dksX1_liars_0 11 rfl rfl)
theorem dX1_liars_14 : decode cX1_liars 14 = .ok (.getfield 224, 3) := dk_180 0 224 (dk_at dksX1_liars_0 14 rfl rfl)
theorem dX1_liars_17 : decode cX1_liars 17 = .ok (.bipush (-2), 2) := dk_16 254 (dk_at dksX1_liars_0 17 rfl rfl)
theorem dX1_liars_19 : decode cX1_liars 19 = .ok (.if_icmp .ne 6, 3) := dk_160 0 6 (dk_at dksX1_liars_0 19 rfl rfl)
theorem dX1_liars_22 : decode cX1_liars 22 = .ok (.bipush (-2), 2) := dk_16 254 (dk_at dksX1_liars_0 22 rfl rfl)
theorem dX1_liars_24 : decode cX1_liars 24 = .ok (.ireturn, 1) := dk_172 (dk_at dksX1_liars_1 0 rfl rfl)
theorem dX1_liars_25 : decode cX1_liars 25 = .ok (.iconst 0, 1) := dk_3 (dk_at dksX1_liars_1 1 rfl rfl)
theorem dX1_liars_26 : decode cX1_liars 26 = .ok (.istore_n 3, 1) := dk_62 (dk_at dksX1_liars_1 2 rfl rfl)
theorem dX1_liars_27 : decode cX1_liars 27 = .ok (.iconst (-1), 1) := dk_2 (dk_at dksX1_liars_1 3 rfl rfl)
theorem dX1_liars_28 : decode cX1_liars 28 = .ok (.istore 4, 2) := dk_54 4 (dk_at dksX1_liars_1 4 rfl rfl)
theorem dX1_liars_30 : decode cX1_liars 30 = .ok (.iconst 0, 1) := dk_3 (dk_at dksX1_liars_1 6 rfl rfl)
theorem dX1_liars_31 : decode cX1_liars 31 = .ok (.istore 5, 2) := dk_54 5 (dk_at dksX1_liars_1 7 rfl rfl)
theorem dX1_liars_33 : decode cX1_liars 33 = .ok (.iconst 0, 1) := dk_3 (dk_at dksX1_liars_1 9 rfl rfl)
theorem dX1_liars_34 : decode cX1_liars 34 = .ok (.istore 6, 2) := dk_54 6 (dk_at dksX1_liars_1 10 rfl rfl)
theorem dX1_liars_36 : decode cX1_liars 36 = .ok (.iload 6, 2) := dk_21 6 (dk_at dksX1_liars_1 12 rfl rfl)
theorem dX1_liars_38 : decode cX1_liars 38 = .ok (.aload_n 0, 1) := dk_42 (dk_at dksX1_liars_1 14 rfl rfl)
theorem dX1_liars_39 : decode cX1_liars 39 = .ok (.invokevirtual 77, 3) := dk_182 0 77 (dk_at dksX1_liars_1 15 rfl rfl)
theorem dX1_liars_42 : decode cX1_liars 42 = .ok (.if_icmp .ge 120, 3) := dk_162 0 120 (dk_at dksX1_liars_1 18 rfl rfl)
theorem dX1_liars_45 : decode cX1_liars 45 = .ok (.aload_n 0, 1) := dk_42 (dk_at dksX1_liars_1 21 rfl rfl)
theorem dX1_liars_46 : decode cX1_liars 46 = .ok (.iload 6, 2) := dk_21 6 (dk_at dksX1_liars_1 22 rfl rfl)
theorem dX1_liars_48 : decode cX1_liars 48 = .ok (.iload_n 2, 1) := dk_28 (dk_at dksX1_liars_2 0 rfl rfl)
theorem dX1_liars_49 : decode cX1_liars 49 = .ok (.aload_n 0, 1) := dk_42 (dk_at dksX1_liars_2 1 rfl rfl)
theorem dX1_liars_50 : decode cX1_liars 50 = .ok (.iload 6, 2) := dk_21 6 (dk_at dksX1_liars_2 2 rfl rfl)
theorem dX1_liars_52 : decode cX1_liars 52 = .ok (.aload_n 0, 1) := dk_42 (dk_at dksX1_liars_2 4 rfl rfl)
theorem dX1_liars_53 : decode cX1_liars 53 = .ok (.getfield 44, 3) := dk_180 0 44 (dk_at dksX1_liars_2 5 rfl rfl)
theorem dX1_liars_56 : decode cX1_liars 56 = .ok (.bipush 24, 2) := dk_16 24 (dk_at dksX1_liars_2 8 rfl rfl)
theorem dX1_liars_58 : decode cX1_liars 58 = .ok (.iload 6, 2) := dk_21 6 (dk_at dksX1_liars_2 10 rfl rfl)
theorem dX1_liars_60 : decode cX1_liars 60 = .ok (.imul, 1) := dk_104 (dk_at dksX1_liars_2 12 rfl rfl)
theorem dX1_liars_61 : decode cX1_liars 61 = .ok (.iload_n 2, 1) := dk_28 (dk_at dksX1_liars_2 13 rfl rfl)
theorem dX1_liars_62 : decode cX1_liars 62 = .ok (.iadd, 1) := dk_96 (dk_at dksX1_liars_2 14 rfl rfl)
theorem dX1_liars_63 : decode cX1_liars 63 = .ok (.iaload, 1) := dk_46 (dk_at dksX1_liars_2 15 rfl rfl)
theorem dX1_liars_64 : decode cX1_liars 64 = .ok (.invokevirtual 184, 3) := dk_182 0 184 (dk_at dksX1_liars_2 16 rfl rfl)
theorem dX1_liars_67 : decode cX1_liars 67 = .ok (.iload_n 1, 1) := dk_27 (dk_at dksX1_liars_2 19 rfl rfl)
theorem dX1_liars_68 : decode cX1_liars 68 = .ok (.invokevirtual 240, 3) := dk_182 0 240 (dk_at dksX1_liars_2 20 rfl rfl)
theorem dX1_liars_71 : decode cX1_liars 71 = .ok (.istore 7, 2) := dk_54 7 (dk_at dksX1_liars_3 0 rfl rfl)
theorem dX1_liars_73 : decode cX1_liars 73 = .ok (.iload 7, 2) := dk_21 7 (dk_at dksX1_liars_3 2 rfl rfl)
theorem dX1_liars_75 : decode cX1_liars 75 = .ok (.iconst 1, 1) := dk_4 (dk_at dksX1_liars_3 4 rfl rfl)
theorem dX1_liars_76 : decode cX1_liars 76 = .ok (.iand, 1) := dk_126 (dk_at dksX1_liars_3 5 rfl rfl)
theorem dX1_liars_77 : decode cX1_liars 77 = .ok (.ifCond .ne 41, 3) := dk_154 0 41 (dk_at dksX1_liars_3 6 rfl rfl)
theorem dX1_liars_80 : decode cX1_liars 80 = .ok (.aload_n 0, 1) := dk_42 (dk_at dksX1_liars_3 9 rfl rfl)
theorem dX1_liars_81 : decode cX1_liars 81 = .ok (.iload 6, 2) := dk_21 6 (dk_at dksX1_liars_3 10 rfl rfl)
theorem dX1_liars_83 : decode cX1_liars 83 = .ok (.iload_n 2, 1) := dk_28 (dk_at dksX1_liars_3 12 rfl rfl)
theorem dX1_liars_84 : decode cX1_liars 84 = .ok (.iload_n 1, 1) := dk_27 (dk_at dksX1_liars_3 13 rfl rfl)
theorem dX1_liars_85 : decode cX1_liars 85 = .ok (.iconst 0, 1) := dk_3 (dk_at dksX1_liars_3 14 rfl rfl)
theorem dX1_liars_86 : decode cX1_liars 86 = .ok (.invokevirtual 244, 3) := dk_182 0 244 (dk_at dksX1_liars_3 15 rfl rfl)
theorem dX1_liars_89 : decode cX1_liars 89 = .ok (.ifCond .ne 5, 3) := dk_154 0 5 (dk_at dksX1_liars_3 18 rfl rfl)
theorem dX1_liars_92 : decode cX1_liars 92 = .ok (.iconst (-1), 1) := dk_2 (dk_at dksX1_liars_3 21 rfl rfl)
theorem dX1_liars_93 : decode cX1_liars 93 = .ok (.ireturn, 1) := dk_172 (dk_at dksX1_liars_3 22 rfl rfl)
theorem dX1_liars_94 : decode cX1_liars 94 = .ok (.iload_n 3, 1) := dk_29 (dk_at dksX1_liars_3 23 rfl rfl)
theorem dX1_liars_95 : decode cX1_liars 95 = .ok (.iconst 1, 1) := dk_4 (dk_at dksX1_liars_4 0 rfl rfl)
theorem dX1_liars_96 : decode cX1_liars 96 = .ok (.iload 6, 2) := dk_21 6 (dk_at dksX1_liars_4 1 rfl rfl)
theorem dX1_liars_98 : decode cX1_liars 98 = .ok (.ishl, 1) := dk_120 (dk_at dksX1_liars_4 3 rfl rfl)
theorem dX1_liars_99 : decode cX1_liars 99 = .ok (.ior, 1) := dk_128 (dk_at dksX1_liars_4 4 rfl rfl)
theorem dX1_liars_100 : decode cX1_liars 100 = .ok (.istore_n 3, 1) := dk_62 (dk_at dksX1_liars_4 5 rfl rfl)
theorem dX1_liars_101 : decode cX1_liars 101 = .ok (.iload 5, 2) := dk_21 5 (dk_at dksX1_liars_4 6 rfl rfl)
theorem dX1_liars_103 : decode cX1_liars 103 = .ok (.aload_n 0, 1) := dk_42 (dk_at dksX1_liars_4 8 rfl rfl)
theorem dX1_liars_104 : decode cX1_liars 104 = .ok (.iload 6, 2) := dk_21 6 (dk_at dksX1_liars_4 9 rfl rfl)
theorem dX1_liars_106 : decode cX1_liars 106 = .ok (.iload_n 2, 1) := dk_28 (dk_at dksX1_liars_4 11 rfl rfl)
theorem dX1_liars_107 : decode cX1_liars 107 = .ok (.iload_n 1, 1) := dk_27 (dk_at dksX1_liars_4 12 rfl rfl)
theorem dX1_liars_108 : decode cX1_liars 108 = .ok (.iconst 1, 1) := dk_4 (dk_at dksX1_liars_4 13 rfl rfl)
theorem dX1_liars_109 : decode cX1_liars 109 = .ok (.invokevirtual 244, 3) := dk_182 0 244 (dk_at dksX1_liars_4 14 rfl rfl)
theorem dX1_liars_112 : decode cX1_liars 112 = .ok (.ior, 1) := dk_128 (dk_at dksX1_liars_4 17 rfl rfl)
theorem dX1_liars_113 : decode cX1_liars 113 = .ok (.istore 5, 2) := dk_54 5 (dk_at dksX1_liars_4 18 rfl rfl)
theorem dX1_liars_115 : decode cX1_liars 115 = .ok (.goto 41, 3) := dk_167 0 41 (dk_at dksX1_liars_4 20 rfl rfl)
theorem dX1_liars_118 : decode cX1_liars 118 = .ok (.iload 5, 2) := dk_21 5 (dk_at dksX1_liars_5 0 rfl rfl)
theorem dX1_liars_120 : decode cX1_liars 120 = .ok (.iload 7, 2) := dk_21 7 (dk_at dksX1_liars_5 2 rfl rfl)
theorem dX1_liars_122 : decode cX1_liars 122 = .ok (.iconst 3, 1) := dk_6 (dk_at dksX1_liars_5 4 rfl rfl)
theorem dX1_liars_123 : decode cX1_liars 123 = .ok (.if_icmp .ne 7, 3) := dk_160 0 7 (dk_at dksX1_liars_5 5 rfl rfl)
theorem dX1_liars_126 : decode cX1_liars 126 = .ok (.iconst 1, 1) := dk_4 (dk_at dksX1_liars_5 8 rfl rfl)
theorem dX1_liars_127 : decode cX1_liars 127 = .ok (.goto 4, 3) := dk_167 0 4 (dk_at dksX1_liars_5 9 rfl rfl)
theorem dX1_liars_130 : decode cX1_liars 130 = .ok (.iconst 0, 1) := dk_3 (dk_at dksX1_liars_5 12 rfl rfl)
theorem dX1_liars_131 : decode cX1_liars 131 = .ok (.ior, 1) := dk_128 (dk_at dksX1_liars_5 13 rfl rfl)
theorem dX1_liars_132 : decode cX1_liars 132 = .ok (.istore 5, 2) := dk_54 5 (dk_at dksX1_liars_5 14 rfl rfl)
theorem dX1_liars_134 : decode cX1_liars 134 = .ok (.iload 4, 2) := dk_21 4 (dk_at dksX1_liars_5 16 rfl rfl)
theorem dX1_liars_136 : decode cX1_liars 136 = .ok (.iconst (-1), 1) := dk_2 (dk_at dksX1_liars_5 18 rfl rfl)
theorem dX1_liars_137 : decode cX1_liars 137 = .ok (.if_icmp .ne 19, 3) := dk_160 0 19 (dk_at dksX1_liars_5 19 rfl rfl)
theorem dX1_liars_140 : decode cX1_liars 140 = .ok (.aload_n 0, 1) := dk_42 (dk_at dksX1_liars_5 22 rfl rfl)
theorem dX1_liars_141 : decode cX1_liars 141 = .ok (.iload 6, 2) := dk_21 6 (dk_at dksX1_liars_6 0 rfl rfl)
theorem dX1_liars_143 : decode cX1_liars 143 = .ok (.iload_n 2, 1) := dk_28 (dk_at dksX1_liars_6 2 rfl rfl)
theorem dX1_liars_144 : decode cX1_liars 144 = .ok (.iload_n 1, 1) := dk_27 (dk_at dksX1_liars_6 3 rfl rfl)
theorem dX1_liars_145 : decode cX1_liars 145 = .ok (.iconst 1, 1) := dk_4 (dk_at dksX1_liars_6 4 rfl rfl)
theorem dX1_liars_146 : decode cX1_liars 146 = .ok (.invokevirtual 244, 3) := dk_182 0 244 (dk_at dksX1_liars_6 5 rfl rfl)
theorem dX1_liars_149 : decode cX1_liars 149 = .ok (.ifCond .eq 7, 3) := dk_153 0 7 (dk_at dksX1_liars_6 8 rfl rfl)
theorem dX1_liars_152 : decode cX1_liars 152 = .ok (.iload 6, 2) := dk_21 6 (dk_at dksX1_liars_6 11 rfl rfl)
theorem dX1_liars_154 : decode cX1_liars 154 = .ok (.istore 4, 2) := dk_54 4 (dk_at dksX1_liars_6 13 rfl rfl)
theorem dX1_liars_156 : decode cX1_liars 156 = .ok (.iinc 6 1, 3) := dk_132 6 1 (dk_at dksX1_liars_6 15 rfl rfl)
theorem dX1_liars_159 : decode cX1_liars 159 = .ok (.goto (-123), 3) := dk_167 255 133 (dk_at dksX1_liars_6 18 rfl rfl)
theorem dX1_liars_162 : decode cX1_liars 162 = .ok (.iload 5, 2) := dk_21 5 (dk_at dksX1_liars_6 21 rfl rfl)
theorem dX1_liars_164 : decode cX1_liars 164 = .ok (.ifCond .eq 7, 3) := dk_153 0 7 (dk_at dksX1_liars_7 0 rfl rfl)
theorem dX1_liars_167 : decode cX1_liars 167 = .ok (.iload_n 3, 1) := dk_29 (dk_at dksX1_liars_7 3 rfl rfl)
theorem dX1_liars_168 : decode cX1_liars 168 = .ok (.goto 19, 3) := dk_167 0 19 (dk_at dksX1_liars_7 4 rfl rfl)
theorem dX1_liars_171 : decode cX1_liars 171 = .ok (.iload 4, 2) := dk_21 4 (dk_at dksX1_liars_7 7 rfl rfl)
theorem dX1_liars_173 : decode cX1_liars 173 = .ok (.iconst (-1), 1) := dk_2 (dk_at dksX1_liars_7 9 rfl rfl)
theorem dX1_liars_174 : decode cX1_liars 174 = .ok (.if_icmp .ne 7, 3) := dk_160 0 7 (dk_at dksX1_liars_7 10 rfl rfl)
theorem dX1_liars_177 : decode cX1_liars 177 = .ok (.iconst (-1), 1) := dk_2 (dk_at dksX1_liars_7 13 rfl rfl)
theorem dX1_liars_178 : decode cX1_liars 178 = .ok (.goto 9, 3) := dk_167 0 9 (dk_at dksX1_liars_7 14 rfl rfl)
theorem dX1_liars_181 : decode cX1_liars 181 = .ok (.iload_n 3, 1) := dk_29 (dk_at dksX1_liars_7 17 rfl rfl)
theorem dX1_liars_182 : decode cX1_liars 182 = .ok (.iconst 1, 1) := dk_4 (dk_at dksX1_liars_7 18 rfl rfl)
theorem dX1_liars_183 : decode cX1_liars 183 = .ok (.iload 4, 2) := dk_21 4 (dk_at dksX1_liars_7 19 rfl rfl)
theorem dX1_liars_185 : decode cX1_liars 185 = .ok (.ishl, 1) := dk_120 (dk_at dksX1_liars_7 21 rfl rfl)
theorem dX1_liars_186 : decode cX1_liars 186 = .ok (.ior, 1) := dk_128 (dk_at dksX1_liars_7 22 rfl rfl)
theorem dX1_liars_187 : decode cX1_liars 187 = .ok (.ireturn, 1) := dk_172 (dk_at dksX1_liars_7 23 rfl rfl)
def dkwX1_tale_3 : List UInt8 := [167, 255, 203, 21, 5, 172]
abbrev dktX1_tale_3 : List UInt8 := dkwX1_tale_3 ++ []
def dkwX1_tale_2 : List UInt8 := [25, 6, 21, 7, 46, 182, 0, 237, 21, 4, 160, 0, 7, 5, 167, 0, 4, 4, 128, 54, 5, 132, 7, 1]
abbrev dktX1_tale_2 : List UInt8 := dkwX1_tale_2 ++ dktX1_tale_3
def dkwX1_tale_1 : List UInt8 := [162, 0, 51, 42, 27, 25, 6, 21, 7, 46, 182, 0, 184, 29, 160, 0, 31, 21, 5, 42, 27, 182, 0, 81]
abbrev dktX1_tale_1 : List UInt8 := dkwX1_tale_1 ++ dktX1_tale_2
def dkwX1_tale_0 : List UInt8 := [3, 54, 5, 42, 27, 182, 0, 81, 28, 182, 0, 85, 58, 6, 3, 54, 7, 21, 7, 25, 6, 190]
abbrev dktX1_tale_0 : List UInt8 := dkwX1_tale_0 ++ dktX1_tale_1
theorem dksX1_tale_0 : cX1_tale.data.toList.drop 0 = dktX1_tale_0 := by decide +kernel
theorem dksX1_tale_1 : cX1_tale.data.toList.drop 22 = dktX1_tale_1 := dk_seg dksX1_tale_0 22 rfl rfl
theorem dksX1_tale_2 : cX1_tale.data.toList.drop 46 = dktX1_tale_2 := dk_seg dksX1_tale_1 24 rfl rfl
theorem dksX1_tale_3 : cX1_tale.data.toList.drop 70 = dktX1_tale_3 := dk_seg dksX1_tale_2 24 rfl rfl
theorem dX1_tale_0 : decode cX1_tale 0 = .ok (.iconst 0, 1) := dk_3 (dk_at dksX1_tale_0 0 rfl rfl)
theorem dX1_tale_1 : decode cX1_tale 1 = .ok (.istore 5, 2) := dk_54 5 (dk_at dksX1_tale_0 1 rfl rfl)
theorem dX1_tale_3 : decode cX1_tale 3 = .ok (.aload_n 0, 1) := dk_42 (dk_at dksX1_tale_0 3 rfl rfl)
theorem dX1_tale_4 : decode cX1_tale 4 = .ok (.iload_n 1, 1) := dk_27 (dk_at dksX1_tale_0 4 rfl rfl)
theorem dX1_tale_5 : decode cX1_tale 5 = .ok (.invokevirtual 81, 3) := dk_182 0 81 (dk_at dksX1_tale_0 5 rfl rfl)
theorem dX1_tale_8 : decode cX1_tale 8 = .ok (.iload_n 2, 1) := dk_28 (dk_at dksX1_tale_0 8 rfl rfl)
theorem dX1_tale_9 : decode cX1_tale 9 = .ok (.invokevirtual 85, 3) := dk_182 0 85 (dk_at dksX1_tale_0 9 rfl rfl)
theorem dX1_tale_12 : decode cX1_tale 12 = .ok (.astore 6, 2) := dk_58 6 (dk_at dksX1_tale_0 12 rfl rfl)
theorem dX1_tale_14 : decode cX1_tale 14 = .ok (.iconst 0, 1) := dk_3 (dk_at dksX1_tale_0 14 rfl rfl)
theorem dX1_tale_15 : decode cX1_tale 15 = .ok (.istore 7, 2) := dk_54 7 (dk_at dksX1_tale_0 15 rfl rfl)
theorem dX1_tale_17 : decode cX1_tale 17 = .ok (.iload 7, 2) := dk_21 7 (dk_at dksX1_tale_0 17 rfl rfl)
theorem dX1_tale_19 : decode cX1_tale 19 = .ok (.aload 6, 2) := dk_25 6 (dk_at dksX1_tale_0 19 rfl rfl)
theorem dX1_tale_21 : decode cX1_tale 21 = .ok (.arraylength, 1) := dk_190 (dk_at dksX1_tale_0 21 rfl rfl)
theorem dX1_tale_22 : decode cX1_tale 22 = .ok (.if_icmp .ge 51, 3) := dk_162 0 51 (dk_at dksX1_tale_1 0 rfl rfl)
theorem dX1_tale_25 : decode cX1_tale 25 = .ok (.aload_n 0, 1) := dk_42 (dk_at dksX1_tale_1 3 rfl rfl)
theorem dX1_tale_26 : decode cX1_tale 26 = .ok (.iload_n 1, 1) := dk_27 (dk_at dksX1_tale_1 4 rfl rfl)
theorem dX1_tale_27 : decode cX1_tale 27 = .ok (.aload 6, 2) := dk_25 6 (dk_at dksX1_tale_1 5 rfl rfl)
theorem dX1_tale_29 : decode cX1_tale 29 = .ok (.iload 7, 2) := dk_21 7 (dk_at dksX1_tale_1 7 rfl rfl)
theorem dX1_tale_31 : decode cX1_tale 31 = .ok (.iaload, 1) := dk_46 (dk_at dksX1_tale_1 9 rfl rfl)
theorem dX1_tale_32 : decode cX1_tale 32 = .ok (.invokevirtual 184, 3) := dk_182 0 184 (dk_at dksX1_tale_1 10 rfl rfl)
theorem dX1_tale_35 : decode cX1_tale 35 = .ok (.iload_n 3, 1) := dk_29 (dk_at dksX1_tale_1 13 rfl rfl)
theorem dX1_tale_36 : decode cX1_tale 36 = .ok (.if_icmp .ne 31, 3) := dk_160 0 31 (dk_at dksX1_tale_1 14 rfl rfl)
theorem dX1_tale_39 : decode cX1_tale 39 = .ok (.iload 5, 2) := dk_21 5 (dk_at dksX1_tale_1 17 rfl rfl)
theorem dX1_tale_41 : decode cX1_tale 41 = .ok (.aload_n 0, 1) := dk_42 (dk_at dksX1_tale_1 19 rfl rfl)
theorem dX1_tale_42 : decode cX1_tale 42 = .ok (.iload_n 1, 1) := dk_27 (dk_at dksX1_tale_1 20 rfl rfl)
theorem dX1_tale_43 : decode cX1_tale 43 = .ok (.invokevirtual 81, 3) := dk_182 0 81 (dk_at dksX1_tale_1 21 rfl rfl)
theorem dX1_tale_46 : decode cX1_tale 46 = .ok (.aload 6, 2) := dk_25 6 (dk_at dksX1_tale_2 0 rfl rfl)
theorem dX1_tale_48 : decode cX1_tale 48 = .ok (.iload 7, 2) := dk_21 7 (dk_at dksX1_tale_2 2 rfl rfl)
theorem dX1_tale_50 : decode cX1_tale 50 = .ok (.iaload, 1) := dk_46 (dk_at dksX1_tale_2 4 rfl rfl)
theorem dX1_tale_51 : decode cX1_tale 51 = .ok (.invokevirtual 237, 3) := dk_182 0 237 (dk_at dksX1_tale_2 5 rfl rfl)
theorem dX1_tale_54 : decode cX1_tale 54 = .ok (.iload 4, 2) := dk_21 4 (dk_at dksX1_tale_2 8 rfl rfl)
theorem dX1_tale_56 : decode cX1_tale 56 = .ok (.if_icmp .ne 7, 3) := dk_160 0 7 (dk_at dksX1_tale_2 10 rfl rfl)
theorem dX1_tale_59 : decode cX1_tale 59 = .ok (.iconst 2, 1) := dk_5 (dk_at dksX1_tale_2 13 rfl rfl)
theorem dX1_tale_60 : decode cX1_tale 60 = .ok (.goto 4, 3) := dk_167 0 4 (dk_at dksX1_tale_2 14 rfl rfl)
theorem dX1_tale_63 : decode cX1_tale 63 = .ok (.iconst 1, 1) := dk_4 (dk_at dksX1_tale_2 17 rfl rfl)
theorem dX1_tale_64 : decode cX1_tale 64 = .ok (.ior, 1) := dk_128 (dk_at dksX1_tale_2 18 rfl rfl)
theorem dX1_tale_65 : decode cX1_tale 65 = .ok (.istore 5, 2) := dk_54 5 (dk_at dksX1_tale_2 19 rfl rfl)
theorem dX1_tale_67 : decode cX1_tale 67 = .ok (.iinc 7 1, 3) := dk_132 7 1 (dk_at dksX1_tale_2 21 rfl rfl)
theorem dX1_tale_70 : decode cX1_tale 70 = .ok (.goto (-53), 3) := dk_167 255 203 (dk_at dksX1_tale_3 0 rfl rfl)
theorem dX1_tale_73 : decode cX1_tale 73 = .ok (.iload 5, 2) := dk_21 5 (dk_at dksX1_tale_3 3 rfl rfl)
theorem dX1_tale_75 : decode cX1_tale 75 = .ok (.ireturn, 1) := dk_172 (dk_at dksX1_tale_3 5 rfl rfl)
def dkwX1_canLie_3 : List UInt8 := [160, 0, 16, 167, 0, 11, 21, 7, 4, 126, 4, 160, 0, 5, 4, 172, 132, 6, 1, 167, 255, 189, 3, 172]
abbrev dktX1_canLie_3 : List UInt8 := dkwX1_canLie_3 ++ []
def dkwX1_canLie_2 : List UInt8 := [167, 0, 38, 42, 27, 28, 21, 6, 29, 182, 0, 240, 54, 7, 21, 4, 153, 0, 12, 21, 7, 6]
abbrev dktX1_canLie_2 : List UInt8 := dkwX1_canLie_2 ++ dktX1_canLie_3
def dkwX1_canLie_1 : List UInt8 := [163, 0, 67, 21, 6, 21, 5, 159, 0, 54, 21, 6, 42, 27, 182, 0, 181, 2, 130, 126, 153, 0, 6]
abbrev dktX1_canLie_1 : List UInt8 := dkwX1_canLie_1 ++ dktX1_canLie_2
def dkwX1_canLie_0 : List UInt8 := [42, 27, 42, 180, 0, 44, 16, 24, 27, 104, 28, 96, 46, 182, 0, 184, 54, 5, 3, 54, 6, 21, 6, 6]
abbrev dktX1_canLie_0 : List UInt8 := dkwX1_canLie_0 ++ dktX1_canLie_1
theorem dksX1_canLie_0 : cX1_canLie.data.toList.drop 0 = dktX1_canLie_0 := by decide +kernel
theorem dksX1_canLie_1 : cX1_canLie.data.toList.drop 24 = dktX1_canLie_1 := dk_seg dksX1_canLie_0 24 rfl rfl
theorem dksX1_canLie_2 : cX1_canLie.data.toList.drop 47 = dktX1_canLie_2 := dk_seg dksX1_canLie_1 23 rfl rfl
theorem dksX1_canLie_3 : cX1_canLie.data.toList.drop 69 = dktX1_canLie_3 := dk_seg dksX1_canLie_2 22 rfl rfl
theorem dX1_canLie_0 : decode cX1_canLie 0 = .ok (.aload_n 0, 1) := dk_42 (dk_at dksX1_canLie_0 0 rfl rfl)
theorem dX1_canLie_1 : decode cX1_canLie 1 = .ok (.iload_n 1, 1) := dk_27 (dk_at dksX1_canLie_0 1 rfl rfl)
theorem dX1_canLie_2 : decode cX1_canLie 2 = .ok (.aload_n 0, 1) := dk_42 (dk_at dksX1_canLie_0 2 rfl rfl)
theorem dX1_canLie_3 : decode cX1_canLie 3 = .ok (.getfield 44, 3) := dk_180 0 44 (dk_at dksX1_canLie_0 3 rfl rfl)
theorem dX1_canLie_6 : decode cX1_canLie 6 = .ok (.bipush 24, 2) := dk_16 24 (dk_at dksX1_canLie_0 6 rfl rfl)
theorem dX1_canLie_8 : decode cX1_canLie 8 = .ok (.iload_n 1, 1) := dk_27 (dk_at dksX1_canLie_0 8 rfl rfl)
theorem dX1_canLie_9 : decode cX1_canLie 9 = .ok (.imul, 1) := dk_104 (dk_at dksX1_canLie_0 9 rfl rfl)
theorem dX1_canLie_10 : decode cX1_canLie 10 = .ok (.iload_n 2, 1) := dk_28 (dk_at dksX1_canLie_0 10 rfl rfl)
theorem dX1_canLie_11 : decode cX1_canLie 11 = .ok (.iadd, 1) := dk_96 (dk_at dksX1_canLie_0 11 rfl rfl)
theorem dX1_canLie_12 : decode cX1_canLie 12 = .ok (.iaload, 1) := dk_46 (dk_at dksX1_canLie_0 12 rfl rfl)
theorem dX1_canLie_13 : decode cX1_canLie 13 = .ok (.invokevirtual 184, 3) := dk_182 0 184 (dk_at dksX1_canLie_0 13 rfl rfl)
theorem dX1_canLie_16 : decode cX1_canLie 16 = .ok (.istore 5, 2) := dk_54 5 (dk_at dksX1_canLie_0 16 rfl rfl)
theorem dX1_canLie_18 : decode cX1_canLie 18 = .ok (.iconst 0, 1) := dk_3 (dk_at dksX1_canLie_0 18 rfl rfl)
theorem dX1_canLie_19 : decode cX1_canLie 19 = .ok (.istore 6, 2) := dk_54 6 (dk_at dksX1_canLie_0 19 rfl rfl)
theorem dX1_canLie_21 : decode cX1_canLie 21 = .ok (.iload 6, 2) := dk_21 6 (dk_at dksX1_canLie_0 21 rfl rfl)
theorem dX1_canLie_23 : decode cX1_canLie 23 = .ok (.iconst 3, 1) := dk_6 (dk_at dksX1_canLie_0 23 rfl rfl)
theorem dX1_canLie_24 : decode cX1_canLie 24 = .ok (.if_icmp .gt 67, 3) := dk_163 0 67 (dk_at dksX1_canLie_1 0 rfl rfl)
theorem dX1_canLie_27 : decode cX1_canLie 27 = .ok (.iload 6, 2) := dk_21 6 (dk_at dksX1_canLie_1 3 rfl rfl)
theorem dX1_canLie_29 : decode cX1_canLie 29 = .ok (.iload 5, 2) := dk_21 5 (dk_at dksX1_canLie_1 5 rfl rfl)
theorem dX1_canLie_31 : decode cX1_canLie 31 = .ok (.if_icmp .eq 54, 3) := dk_159 0 54 (dk_at dksX1_canLie_1 7 rfl rfl)
theorem dX1_canLie_34 : decode cX1_canLie 34 = .ok (.iload 6, 2) := dk_21 6 (dk_at dksX1_canLie_1 10 rfl rfl)
theorem dX1_canLie_36 : decode cX1_canLie 36 = .ok (.aload_n 0, 1) := dk_42 (dk_at dksX1_canLie_1 12 rfl rfl)
theorem dX1_canLie_37 : decode cX1_canLie 37 = .ok (.iload_n 1, 1) := dk_27 (dk_at dksX1_canLie_1 13 rfl rfl)
theorem dX1_canLie_38 : decode cX1_canLie 38 = .ok (.invokevirtual 181, 3) := dk_182 0 181 (dk_at dksX1_canLie_1 14 rfl rfl)
theorem dX1_canLie_41 : decode cX1_canLie 41 = .ok (.iconst (-1), 1) := dk_2 (dk_at dksX1_canLie_1 17 rfl rfl)
theorem dX1_canLie_42 : decode cX1_canLie 42 = .ok (.ixor, 1) := dk_130 (dk_at dksX1_canLie_1 18 rfl rfl)
theorem dX1_canLie_43 : decode cX1_canLie 43 = .ok (.iand, 1) := dk_126 (dk_at dksX1_canLie_1 19 rfl rfl)
theorem dX1_canLie_44 : decode cX1_canLie 44 = .ok (.ifCond .eq 6, 3) := dk_153 0 6 (dk_at dksX1_canLie_1 20 rfl rfl)
theorem dX1_canLie_47 : decode cX1_canLie 47 = .ok (.goto 38, 3) := dk_167 0 38 (dk_at dksX1_canLie_2 0 rfl rfl)
theorem dX1_canLie_50 : decode cX1_canLie 50 = .ok (.aload_n 0, 1) := dk_42 (dk_at dksX1_canLie_2 3 rfl rfl)
theorem dX1_canLie_51 : decode cX1_canLie 51 = .ok (.iload_n 1, 1) := dk_27 (dk_at dksX1_canLie_2 4 rfl rfl)
theorem dX1_canLie_52 : decode cX1_canLie 52 = .ok (.iload_n 2, 1) := dk_28 (dk_at dksX1_canLie_2 5 rfl rfl)
theorem dX1_canLie_53 : decode cX1_canLie 53 = .ok (.iload 6, 2) := dk_21 6 (dk_at dksX1_canLie_2 6 rfl rfl)
theorem dX1_canLie_55 : decode cX1_canLie 55 = .ok (.iload_n 3, 1) := dk_29 (dk_at dksX1_canLie_2 8 rfl rfl)
theorem dX1_canLie_56 : decode cX1_canLie 56 = .ok (.invokevirtual 240, 3) := dk_182 0 240 (dk_at dksX1_canLie_2 9 rfl rfl)
theorem dX1_canLie_59 : decode cX1_canLie 59 = .ok (.istore 7, 2) := dk_54 7 (dk_at dksX1_canLie_2 12 rfl rfl)
theorem dX1_canLie_61 : decode cX1_canLie 61 = .ok (.iload 4, 2) := dk_21 4 (dk_at dksX1_canLie_2 14 rfl rfl)
theorem dX1_canLie_63 : decode cX1_canLie 63 = .ok (.ifCond .eq 12, 3) := dk_153 0 12 (dk_at dksX1_canLie_2 16 rfl rfl)
theorem dX1_canLie_66 : decode cX1_canLie 66 = .ok (.iload 7, 2) := dk_21 7 (dk_at dksX1_canLie_2 19 rfl rfl)
theorem dX1_canLie_68 : decode cX1_canLie 68 = .ok (.iconst 3, 1) := dk_6 (dk_at dksX1_canLie_2 21 rfl rfl)
theorem dX1_canLie_69 : decode cX1_canLie 69 = .ok (.if_icmp .ne 16, 3) := dk_160 0 16 (dk_at dksX1_canLie_3 0 rfl rfl)
theorem dX1_canLie_72 : decode cX1_canLie 72 = .ok (.goto 11, 3) := dk_167 0 11 (dk_at dksX1_canLie_3 3 rfl rfl)
theorem dX1_canLie_75 : decode cX1_canLie 75 = .ok (.iload 7, 2) := dk_21 7 (dk_at dksX1_canLie_3 6 rfl rfl)
theorem dX1_canLie_77 : decode cX1_canLie 77 = .ok (.iconst 1, 1) := dk_4 (dk_at dksX1_canLie_3 8 rfl rfl)
theorem dX1_canLie_78 : decode cX1_canLie 78 = .ok (.iand, 1) := dk_126 (dk_at dksX1_canLie_3 9 rfl rfl)
theorem dX1_canLie_79 : decode cX1_canLie 79 = .ok (.iconst 1, 1) := dk_4 (dk_at dksX1_canLie_3 10 rfl rfl)
theorem dX1_canLie_80 : decode cX1_canLie 80 = .ok (.if_icmp .ne 5, 3) := dk_160 0 5 (dk_at dksX1_canLie_3 11 rfl rfl)
theorem dX1_canLie_83 : decode cX1_canLie 83 = .ok (.iconst 1, 1) := dk_4 (dk_at dksX1_canLie_3 14 rfl rfl)
theorem dX1_canLie_84 : decode cX1_canLie 84 = .ok (.ireturn, 1) := dk_172 (dk_at dksX1_canLie_3 15 rfl rfl)
theorem dX1_canLie_85 : decode cX1_canLie 85 = .ok (.iinc 6 1, 3) := dk_132 6 1 (dk_at dksX1_canLie_3 16 rfl rfl)
theorem dX1_canLie_88 : decode cX1_canLie 88 = .ok (.goto (-67), 3) := dk_167 255 189 (dk_at dksX1_canLie_3 19 rfl rfl)
theorem dX1_canLie_91 : decode cX1_canLie 91 = .ok (.iconst 0, 1) := dk_3 (dk_at dksX1_canLie_3 22 rfl rfl)
theorem dX1_canLie_92 : decode cX1_canLie 92 = .ok (.ireturn, 1) := dk_172 (dk_at dksX1_canLie_3 23 rfl rfl)
def dkwX1_chance_0 : List UInt8 := [42, 27, 182, 0, 138, 28, 184, 0, 175, 42, 27, 28, 182, 0, 251, 172]
abbrev dktX1_chance_0 : List UInt8 := dkwX1_chance_0 ++ []
theorem dksX1_chance_0 : cX1_chance.data.toList.drop 0 = dktX1_chance_0 := by decide +kernel
theorem dX1_chance_0 : decode cX1_chance 0 = .ok (.aload_n 0, 1) := dk_42 (dk_at dksX1_chance_0 0 rfl rfl)
theorem dX1_chance_1 : decode cX1_chance 1 = .ok (.iload_n 1, 1) := dk_27 (dk_at dksX1_chance_0 1 rfl rfl)
theorem dX1_chance_2 : decode cX1_chance 2 = .ok (.invokevirtual 138, 3) := dk_182 0 138 (dk_at dksX1_chance_0 2 rfl rfl)
theorem dX1_chance_5 : decode cX1_chance 5 = .ok (.iload_n 2, 1) := dk_28 (dk_at dksX1_chance_0 5 rfl rfl)
theorem dX1_chance_6 : decode cX1_chance 6 = .ok (.invokestatic 175, 3) := dk_184 0 175 (dk_at dksX1_chance_0 6 rfl rfl)
theorem dX1_chance_9 : decode cX1_chance 9 = .ok (.aload_n 0, 1) := dk_42 (dk_at dksX1_chance_0 9 rfl rfl)
theorem dX1_chance_10 : decode cX1_chance 10 = .ok (.iload_n 1, 1) := dk_27 (dk_at dksX1_chance_0 10 rfl rfl)
theorem dX1_chance_11 : decode cX1_chance 11 = .ok (.iload_n 2, 1) := dk_28 (dk_at dksX1_chance_0 11 rfl rfl)
theorem dX1_chance_12 : decode cX1_chance 12 = .ok (.invokevirtual 251, 3) := dk_182 0 251 (dk_at dksX1_chance_0 12 rfl rfl)
theorem dX1_chance_15 : decode cX1_chance 15 = .ok (.ireturn, 1) := dk_172 (dk_at dksX1_chance_0 15 rfl rfl)
def dkwX1_chanceOf_3 : List UInt8 := [108, 21, 5, 104, 172]
abbrev dktX1_chanceOf_3 : List UInt8 := dkwX1_chanceOf_3 ++ []
def dkwX1_chanceOf_2 : List UInt8 := [21, 6, 46, 182, 0, 184, 154, 0, 6, 132, 5, 1, 132, 6, 1, 167, 255, 229, 17, 108, 72, 25, 4, 190]
abbrev dktX1_chanceOf_2 : List UInt8 := dkwX1_chanceOf_2 ++ dktX1_chanceOf_3
def dkwX1_chanceOf_1 : List UInt8 := [182, 0, 85, 58, 4, 3, 54, 5, 3, 54, 6, 21, 6, 25, 4, 190, 162, 0, 25, 42, 29, 25, 4]
abbrev dktX1_chanceOf_1 : List UInt8 := dkwX1_chanceOf_1 ++ dktX1_chanceOf_2
def dkwX1_chanceOf_0 : List UInt8 := [42, 180, 0, 16, 27, 182, 0, 148, 62, 29, 2, 160, 0, 5, 3, 172, 42, 29, 182, 0, 81, 28]
abbrev dktX1_chanceOf_0 : List UInt8 := dkwX1_chanceOf_0 ++ dktX1_chanceOf_1
theorem dksX1_chanceOf_0 : cX1_chanceOf.data.toList.drop 0 = dktX1_chanceOf_0 := by decide +kernel
theorem dksX1_chanceOf_1 : cX1_chanceOf.data.toList.drop 22 = dktX1_chanceOf_1 := dk_seg dksX1_chanceOf_0 22 rfl rfl
theorem dksX1_chanceOf_2 : cX1_chanceOf.data.toList.drop 45 = dktX1_chanceOf_2 := dk_seg dksX1_chanceOf_1 23 rfl rfl
theorem dksX1_chanceOf_3 : cX1_chanceOf.data.toList.drop 69 = dktX1_chanceOf_3 := dk_seg dksX1_chanceOf_2 24 rfl rfl
theorem dX1_chanceOf_0 : decode cX1_chanceOf 0 = .ok (.aload_n 0, 1) := dk_42 (dk_at dksX1_chanceOf_0 0 rfl rfl)
theorem dX1_chanceOf_1 : decode cX1_chanceOf 1 = .ok (.getfield 16, 3) := dk_180 0 16 (dk_at dksX1_chanceOf_0 1 rfl rfl)
theorem dX1_chanceOf_4 : decode cX1_chanceOf 4 = .ok (.iload_n 1, 1) := dk_27 (dk_at dksX1_chanceOf_0 4 rfl rfl)
theorem dX1_chanceOf_5 : decode cX1_chanceOf 5 = .ok (.invokevirtual 148, 3) := dk_182 0 148 (dk_at dksX1_chanceOf_0 5 rfl rfl)
theorem dX1_chanceOf_8 : decode cX1_chanceOf 8 = .ok (.istore_n 3, 1) := dk_62 (dk_at dksX1_chanceOf_0 8 rfl rfl)
theorem dX1_chanceOf_9 : decode cX1_chanceOf 9 = .ok (.iload_n 3, 1) := dk_29 (dk_at dksX1_chanceOf_0 9 rfl rfl)
theorem dX1_chanceOf_10 : decode cX1_chanceOf 10 = .ok (.iconst (-1), 1) := dk_2 (dk_at dksX1_chanceOf_0 10 rfl rfl)
theorem dX1_chanceOf_11 : decode cX1_chanceOf 11 = .ok (.if_icmp .ne 5, 3) := dk_160 0 5 (dk_at dksX1_chanceOf_0 11 rfl rfl)
theorem dX1_chanceOf_14 : decode cX1_chanceOf 14 = .ok (.iconst 0, 1) := dk_3 (dk_at dksX1_chanceOf_0 14 rfl rfl)
theorem dX1_chanceOf_15 : decode cX1_chanceOf 15 = .ok (.ireturn, 1) := dk_172 (dk_at dksX1_chanceOf_0 15 rfl rfl)
theorem dX1_chanceOf_16 : decode cX1_chanceOf 16 = .ok (.aload_n 0, 1) := dk_42 (dk_at dksX1_chanceOf_0 16 rfl rfl)
theorem dX1_chanceOf_17 : decode cX1_chanceOf 17 = .ok (.iload_n 3, 1) := dk_29 (dk_at dksX1_chanceOf_0 17 rfl rfl)
theorem dX1_chanceOf_18 : decode cX1_chanceOf 18 = .ok (.invokevirtual 81, 3) := dk_182 0 81 (dk_at dksX1_chanceOf_0 18 rfl rfl)
theorem dX1_chanceOf_21 : decode cX1_chanceOf 21 = .ok (.iload_n 2, 1) := dk_28 (dk_at dksX1_chanceOf_0 21 rfl rfl)
theorem dX1_chanceOf_22 : decode cX1_chanceOf 22 = .ok (.invokevirtual 85, 3) := dk_182 0 85 (dk_at dksX1_chanceOf_1 0 rfl rfl)
theorem dX1_chanceOf_25 : decode cX1_chanceOf 25 = .ok (.astore 4, 2) := dk_58 4 (dk_at dksX1_chanceOf_1 3 rfl rfl)
theorem dX1_chanceOf_27 : decode cX1_chanceOf 27 = .ok (.iconst 0, 1) := dk_3 (dk_at dksX1_chanceOf_1 5 rfl rfl)
theorem dX1_chanceOf_28 : decode cX1_chanceOf 28 = .ok (.istore 5, 2) := dk_54 5 (dk_at dksX1_chanceOf_1 6 rfl rfl)
theorem dX1_chanceOf_30 : decode cX1_chanceOf 30 = .ok (.iconst 0, 1) := dk_3 (dk_at dksX1_chanceOf_1 8 rfl rfl)
theorem dX1_chanceOf_31 : decode cX1_chanceOf 31 = .ok (.istore 6, 2) := dk_54 6 (dk_at dksX1_chanceOf_1 9 rfl rfl)
theorem dX1_chanceOf_33 : decode cX1_chanceOf 33 = .ok (.iload 6, 2) := dk_21 6 (dk_at dksX1_chanceOf_1 11 rfl rfl)
theorem dX1_chanceOf_35 : decode cX1_chanceOf 35 = .ok (.aload 4, 2) := dk_25 4 (dk_at dksX1_chanceOf_1 13 rfl rfl)
theorem dX1_chanceOf_37 : decode cX1_chanceOf 37 = .ok (.arraylength, 1) := dk_190 (dk_at dksX1_chanceOf_1 15 rfl rfl)
theorem dX1_chanceOf_38 : decode cX1_chanceOf 38 = .ok (.if_icmp .ge 25, 3) := dk_162 0 25 (dk_at dksX1_chanceOf_1 16 rfl rfl)
theorem dX1_chanceOf_41 : decode cX1_chanceOf 41 = .ok (.aload_n 0, 1) := dk_42 (dk_at dksX1_chanceOf_1 19 rfl rfl)
theorem dX1_chanceOf_42 : decode cX1_chanceOf 42 = .ok (.iload_n 3, 1) := dk_29 (dk_at dksX1_chanceOf_1 20 rfl rfl)
theorem dX1_chanceOf_43 : decode cX1_chanceOf 43 = .ok (.aload 4, 2) := dk_25 4 (dk_at dksX1_chanceOf_1 21 rfl rfl)
theorem dX1_chanceOf_45 : decode cX1_chanceOf 45 = .ok (.iload 6, 2) := dk_21 6 (dk_at dksX1_chanceOf_2 0 rfl rfl)
theorem dX1_chanceOf_47 : decode cX1_chanceOf 47 = .ok (.iaload, 1) := dk_46 (dk_at dksX1_chanceOf_2 2 rfl rfl)
theorem dX1_chanceOf_48 : decode cX1_chanceOf 48 = .ok (.invokevirtual 184, 3) := dk_182 0 184 (dk_at dksX1_chanceOf_2 3 rfl rfl)
theorem dX1_chanceOf_51 : decode cX1_chanceOf 51 = .ok (.ifCond .ne 6, 3) := dk_154 0 6 (dk_at dksX1_chanceOf_2 6 rfl rfl)
theorem dX1_chanceOf_54 : decode cX1_chanceOf 54 = .ok (.iinc 5 1, 3) := dk_132 5 1 (dk_at dksX1_chanceOf_2 9 rfl rfl)
theorem dX1_chanceOf_57 : decode cX1_chanceOf 57 = .ok (.iinc 6 1, 3) := dk_132 6 1 (dk_at dksX1_chanceOf_2 12 rfl rfl)
theorem dX1_chanceOf_60 : decode cX1_chanceOf 60 = .ok (.goto (-27), 3) := dk_167 255 229 (dk_at dksX1_chanceOf_2 15 rfl rfl)
theorem dX1_chanceOf_63 : decode cX1_chanceOf 63 = .ok (.sipush 27720, 3) := dk_17 108 72 (dk_at dksX1_chanceOf_2 18 rfl rfl)
theorem dX1_chanceOf_66 : decode cX1_chanceOf 66 = .ok (.aload 4, 2) := dk_25 4 (dk_at dksX1_chanceOf_2 21 rfl rfl)
theorem dX1_chanceOf_68 : decode cX1_chanceOf 68 = .ok (.arraylength, 1) := dk_190 (dk_at dksX1_chanceOf_2 23 rfl rfl)
theorem dX1_chanceOf_69 : decode cX1_chanceOf 69 = .ok (.idiv, 1) := dk_108 (dk_at dksX1_chanceOf_3 0 rfl rfl)
theorem dX1_chanceOf_70 : decode cX1_chanceOf 70 = .ok (.iload 5, 2) := dk_21 5 (dk_at dksX1_chanceOf_3 1 rfl rfl)
theorem dX1_chanceOf_72 : decode cX1_chanceOf 72 = .ok (.imul, 1) := dk_104 (dk_at dksX1_chanceOf_3 3 rfl rfl)
theorem dX1_chanceOf_73 : decode cX1_chanceOf 73 = .ok (.ireturn, 1) := dk_172 (dk_at dksX1_chanceOf_3 4 rfl rfl)
def dkwX1_round_4 : List UInt8 := [180, 1, 7, 21, 5, 182, 1, 10, 84, 132, 5, 1, 167, 255, 213, 25, 4, 180, 1, 13, 172]
abbrev dktX1_round_4 : List UInt8 := dkwX1_round_4 ++ []
def dkwX1_round_3 : List UInt8 := [180, 0, 96, 21, 5, 25, 4, 180, 1, 7, 21, 5, 46, 79, 42, 180, 1, 3, 21, 5, 25, 4, 25, 4]
abbrev dktX1_round_3 : List UInt8 := dkwX1_round_3 ++ dktX1_round_4
def dkwX1_round_2 : List UInt8 := [42, 29, 188, 10, 181, 0, 96, 42, 29, 188, 4, 181, 1, 3, 3, 54, 5, 21, 5, 29, 162, 0, 43, 42]
abbrev dktX1_round_2 : List UInt8 := dkwX1_round_2 ++ dktX1_round_3
def dkwX1_round_1 : List UInt8 := [163, 0, 7, 4, 167, 0, 4, 3, 184, 0, 56, 187, 0, 254, 89, 42, 27, 28, 29, 183, 1, 0, 58, 4]
abbrev dktX1_round_1 : List UInt8 := dkwX1_round_1 ++ dktX1_round_2
def dkwX1_round_0 : List UInt8 := [42, 27, 182, 0, 138, 28, 184, 0, 175, 29, 4, 16, 6, 184, 0, 128, 153, 0, 15, 28, 29, 96, 16, 24]
abbrev dktX1_round_0 : List UInt8 := dkwX1_round_0 ++ dktX1_round_1
theorem dksX1_round_0 : cX1_round.data.toList.drop 0 = dktX1_round_0 := by decide +kernel
theorem dksX1_round_1 : cX1_round.data.toList.drop 24 = dktX1_round_1 := dk_seg dksX1_round_0 24 rfl rfl
theorem dksX1_round_2 : cX1_round.data.toList.drop 48 = dktX1_round_2 := dk_seg dksX1_round_1 24 rfl rfl
theorem dksX1_round_3 : cX1_round.data.toList.drop 72 = dktX1_round_3 := dk_seg dksX1_round_2 24 rfl rfl
theorem dksX1_round_4 : cX1_round.data.toList.drop 96 = dktX1_round_4 := dk_seg dksX1_round_3 24 rfl rfl
theorem dX1_round_0 : decode cX1_round 0 = .ok (.aload_n 0, 1) := dk_42 (dk_at dksX1_round_0 0 rfl rfl)
theorem dX1_round_1 : decode cX1_round 1 = .ok (.iload_n 1, 1) := dk_27 (dk_at dksX1_round_0 1 rfl rfl)
theorem dX1_round_2 : decode cX1_round 2 = .ok (.invokevirtual 138, 3) := dk_182 0 138 (dk_at dksX1_round_0 2 rfl rfl)
theorem dX1_round_5 : decode cX1_round 5 = .ok (.iload_n 2, 1) := dk_28 (dk_at dksX1_round_0 5 rfl rfl)
theorem dX1_round_6 : decode cX1_round 6 = .ok (.invokestatic 175, 3) := dk_184 0 175 (dk_at dksX1_round_0 6 rfl rfl)
theorem dX1_round_9 : decode cX1_round 9 = .ok (.iload_n 3, 1) := dk_29 (dk_at dksX1_round_0 9 rfl rfl)
theorem dX1_round_10 : decode cX1_round 10 = .ok (.iconst 1, 1) := dk_4 (dk_at dksX1_round_0 10 rfl rfl)
theorem dX1_round_11 : decode cX1_round 11 = .ok (.bipush 6, 2) := dk_16 6 (dk_at dksX1_round_0 11 rfl rfl)
theorem dX1_round_13 : decode cX1_round 13 = .ok (.invokestatic 128, 3) := dk_184 0 128 (dk_at dksX1_round_0 13 rfl rfl)
theorem dX1_round_16 : decode cX1_round 16 = .ok (.ifCond .eq 15, 3) := dk_153 0 15 (dk_at dksX1_round_0 16 rfl rfl)
theorem dX1_round_19 : decode cX1_round 19 = .ok (.iload_n 2, 1) := dk_28 (dk_at dksX1_round_0 19 rfl rfl)
theorem dX1_round_20 : decode cX1_round 20 = .ok (.iload_n 3, 1) := dk_29 (dk_at dksX1_round_0 20 rfl rfl)
theorem dX1_round_21 : decode cX1_round 21 = .ok (.iadd, 1) := dk_96 (dk_at dksX1_round_0 21 rfl rfl)
theorem dX1_round_22 : decode cX1_round 22 = .ok (.bipush 24, 2) := dk_16 24 (dk_at dksX1_round_0 22 rfl rfl)
theorem dX1_round_24 : decode cX1_round 24 = .ok (.if_icmp .gt 7, 3) := dk_163 0 7 (dk_at dksX1_round_1 0 rfl rfl)
theorem dX1_round_27 : decode cX1_round 27 = .ok (.iconst 1, 1) := dk_4 (dk_at dksX1_round_1 3 rfl rfl)
theorem dX1_round_28 : decode cX1_round 28 = .ok (.goto 4, 3) := dk_167 0 4 (dk_at dksX1_round_1 4 rfl rfl)
theorem dX1_round_31 : decode cX1_round 31 = .ok (.iconst 0, 1) := dk_3 (dk_at dksX1_round_1 7 rfl rfl)
theorem dX1_round_32 : decode cX1_round 32 = .ok (.invokestatic 56, 3) := dk_184 0 56 (dk_at dksX1_round_1 8 rfl rfl)
theorem dX1_round_35 : decode cX1_round 35 = .ok (.new 254, 3) := dk_187 0 254 (dk_at dksX1_round_1 11 rfl rfl)
theorem dX1_round_38 : decode cX1_round 38 = .ok (.dup, 1) := dk_89 (dk_at dksX1_round_1 14 rfl rfl)
theorem dX1_round_39 : decode cX1_round 39 = .ok (.aload_n 0, 1) := dk_42 (dk_at dksX1_round_1 15 rfl rfl)
theorem dX1_round_40 : decode cX1_round 40 = .ok (.iload_n 1, 1) := dk_27 (dk_at dksX1_round_1 16 rfl rfl)
theorem dX1_round_41 : decode cX1_round 41 = .ok (.iload_n 2, 1) := dk_28 (dk_at dksX1_round_1 17 rfl rfl)
theorem dX1_round_42 : decode cX1_round 42 = .ok (.iload_n 3, 1) := dk_29 (dk_at dksX1_round_1 18 rfl rfl)
theorem dX1_round_43 : decode cX1_round 43 = .ok (.invokespecial 256, 3) := dk_183 1 0 (dk_at dksX1_round_1 19 rfl rfl)
theorem dX1_round_46 : decode cX1_round 46 = .ok (.astore 4, 2) := dk_58 4 (dk_at dksX1_round_1 22 rfl rfl)
theorem dX1_round_48 : decode cX1_round 48 = .ok (.aload_n 0, 1) := dk_42 (dk_at dksX1_round_2 0 rfl rfl)
theorem dX1_round_49 : decode cX1_round 49 = .ok (.iload_n 3, 1) := dk_29 (dk_at dksX1_round_2 1 rfl rfl)
theorem dX1_round_50 : decode cX1_round 50 = .ok (.newarray .int, 2) := dk_188_10 (dk_at dksX1_round_2 2 rfl rfl)
theorem dX1_round_52 : decode cX1_round 52 = .ok (.putfield 96, 3) := dk_181 0 96 (dk_at dksX1_round_2 4 rfl rfl)
theorem dX1_round_55 : decode cX1_round 55 = .ok (.aload_n 0, 1) := dk_42 (dk_at dksX1_round_2 7 rfl rfl)
theorem dX1_round_56 : decode cX1_round 56 = .ok (.iload_n 3, 1) := dk_29 (dk_at dksX1_round_2 8 rfl rfl)
theorem dX1_round_57 : decode cX1_round 57 = .ok (.newarray .boolean, 2) := dk_188_4 (dk_at dksX1_round_2 9 rfl rfl)
theorem dX1_round_59 : decode cX1_round 59 = .ok (.putfield 259, 3) := dk_181 1 3 (dk_at dksX1_round_2 11 rfl rfl)
theorem dX1_round_62 : decode cX1_round 62 = .ok (.iconst 0, 1) := dk_3 (dk_at dksX1_round_2 14 rfl rfl)
theorem dX1_round_63 : decode cX1_round 63 = .ok (.istore 5, 2) := dk_54 5 (dk_at dksX1_round_2 15 rfl rfl)
theorem dX1_round_65 : decode cX1_round 65 = .ok (.iload 5, 2) := dk_21 5 (dk_at dksX1_round_2 17 rfl rfl)
theorem dX1_round_67 : decode cX1_round 67 = .ok (.iload_n 3, 1) := dk_29 (dk_at dksX1_round_2 19 rfl rfl)
theorem dX1_round_68 : decode cX1_round 68 = .ok (.if_icmp .ge 43, 3) := dk_162 0 43 (dk_at dksX1_round_2 20 rfl rfl)
theorem dX1_round_71 : decode cX1_round 71 = .ok (.aload_n 0, 1) := dk_42 (dk_at dksX1_round_2 23 rfl rfl)
theorem dX1_round_72 : decode cX1_round 72 = .ok (.getfield 96, 3) := dk_180 0 96 (dk_at dksX1_round_3 0 rfl rfl)
theorem dX1_round_75 : decode cX1_round 75 = .ok (.iload 5, 2) := dk_21 5 (dk_at dksX1_round_3 3 rfl rfl)
theorem dX1_round_77 : decode cX1_round 77 = .ok (.aload 4, 2) := dk_25 4 (dk_at dksX1_round_3 5 rfl rfl)
theorem dX1_round_79 : decode cX1_round 79 = .ok (.getfield 263, 3) := dk_180 1 7 (dk_at dksX1_round_3 7 rfl rfl)
theorem dX1_round_82 : decode cX1_round 82 = .ok (.iload 5, 2) := dk_21 5 (dk_at dksX1_round_3 10 rfl rfl)
theorem dX1_round_84 : decode cX1_round 84 = .ok (.iaload, 1) := dk_46 (dk_at dksX1_round_3 12 rfl rfl)
theorem dX1_round_85 : decode cX1_round 85 = .ok (.iastore, 1) := dk_79 (dk_at dksX1_round_3 13 rfl rfl)
theorem dX1_round_86 : decode cX1_round 86 = .ok (.aload_n 0, 1) := dk_42 (dk_at dksX1_round_3 14 rfl rfl)
theorem dX1_round_87 : decode cX1_round 87 = .ok (.getfield 259, 3) := dk_180 1 3 (dk_at dksX1_round_3 15 rfl rfl)
theorem dX1_round_90 : decode cX1_round 90 = .ok (.iload 5, 2) := dk_21 5 (dk_at dksX1_round_3 18 rfl rfl)
theorem dX1_round_92 : decode cX1_round 92 = .ok (.aload 4, 2) := dk_25 4 (dk_at dksX1_round_3 20 rfl rfl)
theorem dX1_round_94 : decode cX1_round 94 = .ok (.aload 4, 2) := dk_25 4 (dk_at dksX1_round_3 22 rfl rfl)
theorem dX1_round_96 : decode cX1_round 96 = .ok (.getfield 263, 3) := dk_180 1 7 (dk_at dksX1_round_4 0 rfl rfl)
theorem dX1_round_99 : decode cX1_round 99 = .ok (.iload 5, 2) := dk_21 5 (dk_at dksX1_round_4 3 rfl rfl)
theorem dX1_round_101 : decode cX1_round 101 = .ok (.invokevirtual 266, 3) := dk_182 1 10 (dk_at dksX1_round_4 5 rfl rfl)
theorem dX1_round_104 : decode cX1_round 104 = .ok (.bastore, 1) := dk_84 (dk_at dksX1_round_4 8 rfl rfl)
theorem dX1_round_105 : decode cX1_round 105 = .ok (.iinc 5 1, 3) := dk_132 5 1 (dk_at dksX1_round_4 9 rfl rfl)
theorem dX1_round_108 : decode cX1_round 108 = .ok (.goto (-43), 3) := dk_167 255 213 (dk_at dksX1_round_4 12 rfl rfl)
theorem dX1_round_111 : decode cX1_round 111 = .ok (.aload 4, 2) := dk_25 4 (dk_at dksX1_round_4 15 rfl rfl)
theorem dX1_round_113 : decode cX1_round 113 = .ok (.getfield 269, 3) := dk_180 1 13 (dk_at dksX1_round_4 17 rfl rfl)
theorem dX1_round_116 : decode cX1_round 116 = .ok (.ireturn, 1) := dk_172 (dk_at dksX1_round_4 20 rfl rfl)
def dkwX1_worth_0 : List UInt8 := [42, 180, 0, 16, 180, 0, 145, 27, 46, 42, 27, 28, 182, 0, 251, 104, 172]
abbrev dktX1_worth_0 : List UInt8 := dkwX1_worth_0 ++ []
theorem dksX1_worth_0 : cX1_worth.data.toList.drop 0 = dktX1_worth_0 := by decide +kernel
theorem dX1_worth_0 : decode cX1_worth 0 = .ok (.aload_n 0, 1) := dk_42 (dk_at dksX1_worth_0 0 rfl rfl)
theorem dX1_worth_1 : decode cX1_worth 1 = .ok (.getfield 16, 3) := dk_180 0 16 (dk_at dksX1_worth_0 1 rfl rfl)
theorem dX1_worth_4 : decode cX1_worth 4 = .ok (.getfield 145, 3) := dk_180 0 145 (dk_at dksX1_worth_0 4 rfl rfl)
theorem dX1_worth_7 : decode cX1_worth 7 = .ok (.iload_n 1, 1) := dk_27 (dk_at dksX1_worth_0 7 rfl rfl)
theorem dX1_worth_8 : decode cX1_worth 8 = .ok (.iaload, 1) := dk_46 (dk_at dksX1_worth_0 8 rfl rfl)
theorem dX1_worth_9 : decode cX1_worth 9 = .ok (.aload_n 0, 1) := dk_42 (dk_at dksX1_worth_0 9 rfl rfl)
theorem dX1_worth_10 : decode cX1_worth 10 = .ok (.iload_n 1, 1) := dk_27 (dk_at dksX1_worth_0 10 rfl rfl)
theorem dX1_worth_11 : decode cX1_worth 11 = .ok (.iload_n 2, 1) := dk_28 (dk_at dksX1_worth_0 11 rfl rfl)
theorem dX1_worth_12 : decode cX1_worth 12 = .ok (.invokevirtual 251, 3) := dk_182 0 251 (dk_at dksX1_worth_0 12 rfl rfl)
theorem dX1_worth_15 : decode cX1_worth 15 = .ok (.imul, 1) := dk_104 (dk_at dksX1_worth_0 15 rfl rfl)
theorem dX1_worth_16 : decode cX1_worth 16 = .ok (.ireturn, 1) := dk_172 (dk_at dksX1_worth_0 16 rfl rfl)
def dkwX1_path_2 : List UInt8 := [42, 180, 1, 3, 27, 51, 153, 0, 7, 4, 167, 0, 4, 3, 172]
abbrev dktX1_path_2 : List UInt8 := dkwX1_path_2 ++ []
def dkwX1_path_1 : List UInt8 := [153, 0, 7, 4, 167, 0, 4, 3, 184, 0, 132, 28, 154, 0, 12, 42, 180, 0, 96, 27, 46, 167, 0, 17]
abbrev dktX1_path_1 : List UInt8 := dkwX1_path_1 ++ dktX1_path_2
def dkwX1_path_0 : List UInt8 := [28, 184, 0, 142, 42, 180, 0, 96, 198, 0, 22, 27, 3, 42, 180, 0, 96, 190, 4, 100, 184, 0, 128]
abbrev dktX1_path_0 : List UInt8 := dkwX1_path_0 ++ dktX1_path_1
theorem dksX1_path_0 : cX1_path.data.toList.drop 0 = dktX1_path_0 := by decide +kernel
theorem dksX1_path_1 : cX1_path.data.toList.drop 23 = dktX1_path_1 := dk_seg dksX1_path_0 23 rfl rfl
theorem dksX1_path_2 : cX1_path.data.toList.drop 47 = dktX1_path_2 := dk_seg dksX1_path_1 24 rfl rfl
theorem dX1_path_0 : decode cX1_path 0 = .ok (.iload_n 2, 1) := dk_28 (dk_at dksX1_path_0 0 rfl rfl)
theorem dX1_path_1 : decode cX1_path 1 = .ok (.invokestatic 142, 3) := dk_184 0 142 (dk_at dksX1_path_0 1 rfl rfl)
theorem dX1_path_4 : decode cX1_path 4 = .ok (.aload_n 0, 1) := dk_42 (dk_at dksX1_path_0 4 rfl rfl)
theorem dX1_path_5 : decode cX1_path 5 = .ok (.getfield 96, 3) := dk_180 0 96 (dk_at dksX1_path_0 5 rfl rfl)
theorem dX1_path_8 : decode cX1_path 8 = .ok (.ifnull 22, 3) := dk_198 0 22 (dk_at dksX1_path_0 8 rfl rfl)
theorem dX1_path_11 : decode cX1_path 11 = .ok (.iload_n 1, 1) := dk_27 (dk_at dksX1_path_0 11 rfl rfl)
theorem dX1_path_12 : decode cX1_path 12 = .ok (.iconst 0, 1) := dk_3 (dk_at dksX1_path_0 12 rfl rfl)
theorem dX1_path_13 : decode cX1_path 13 = .ok (.aload_n 0, 1) := dk_42 (dk_at dksX1_path_0 13 rfl rfl)
theorem dX1_path_14 : decode cX1_path 14 = .ok (.getfield 96, 3) := dk_180 0 96 (dk_at dksX1_path_0 14 rfl rfl)
theorem dX1_path_17 : decode cX1_path 17 = .ok (.arraylength, 1) := dk_190 (dk_at dksX1_path_0 17 rfl rfl)
theorem dX1_path_18 : decode cX1_path 18 = .ok (.iconst 1, 1) := dk_4 (dk_at dksX1_path_0 18 rfl rfl)
theorem dX1_path_19 : decode cX1_path 19 = .ok (.isub, 1) := dk_100 (dk_at dksX1_path_0 19 rfl rfl)
theorem dX1_path_20 : decode cX1_path 20 = .ok (.invokestatic 128, 3) := dk_184 0 128 (dk_at dksX1_path_0 20 rfl rfl)
theorem dX1_path_23 : decode cX1_path 23 = .ok (.ifCond .eq 7, 3) := dk_153 0 7 (dk_at dksX1_path_1 0 rfl rfl)
theorem dX1_path_26 : decode cX1_path 26 = .ok (.iconst 1, 1) := dk_4 (dk_at dksX1_path_1 3 rfl rfl)
theorem dX1_path_27 : decode cX1_path 27 = .ok (.goto 4, 3) := dk_167 0 4 (dk_at dksX1_path_1 4 rfl rfl)
theorem dX1_path_30 : decode cX1_path 30 = .ok (.iconst 0, 1) := dk_3 (dk_at dksX1_path_1 7 rfl rfl)
theorem dX1_path_31 : decode cX1_path 31 = .ok (.invokestatic 132, 3) := dk_184 0 132 (dk_at dksX1_path_1 8 rfl rfl)
theorem dX1_path_34 : decode cX1_path 34 = .ok (.iload_n 2, 1) := dk_28 (dk_at dksX1_path_1 11 rfl rfl)
theorem dX1_path_35 : decode cX1_path 35 = .ok (.ifCond .ne 12, 3) := dk_154 0 12 (dk_at dksX1_path_1 12 rfl rfl)
theorem dX1_path_38 : decode cX1_path 38 = .ok (.aload_n 0, 1) := dk_42 (dk_at dksX1_path_1 15 rfl rfl)
theorem dX1_path_39 : decode cX1_path 39 = .ok (.getfield 96, 3) := dk_180 0 96 (dk_at dksX1_path_1 16 rfl rfl)
theorem dX1_path_42 : decode cX1_path 42 = .ok (.iload_n 1, 1) := dk_27 (dk_at dksX1_path_1 19 rfl rfl)
theorem dX1_path_43 : decode cX1_path 43 = .ok (.iaload, 1) := dk_46 (dk_at dksX1_path_1 20 rfl rfl)
theorem dX1_path_44 : decode cX1_path 44 = .ok (.goto 17, 3) := dk_167 0 17 (dk_at dksX1_path_1 21 rfl rfl)
theorem dX1_path_47 : decode cX1_path 47 = .ok (.aload_n 0, 1) := dk_42 (dk_at dksX1_path_2 0 rfl rfl)
theorem dX1_path_48 : decode cX1_path 48 = .ok (.getfield 259, 3) := dk_180 1 3 (dk_at dksX1_path_2 1 rfl rfl)
theorem dX1_path_51 : decode cX1_path 51 = .ok (.iload_n 1, 1) := dk_27 (dk_at dksX1_path_2 4 rfl rfl)
theorem dX1_path_52 : decode cX1_path 52 = .ok (.baload, 1) := dk_51 (dk_at dksX1_path_2 5 rfl rfl)
theorem dX1_path_53 : decode cX1_path 53 = .ok (.ifCond .eq 7, 3) := dk_153 0 7 (dk_at dksX1_path_2 6 rfl rfl)
theorem dX1_path_56 : decode cX1_path 56 = .ok (.iconst 1, 1) := dk_4 (dk_at dksX1_path_2 9 rfl rfl)
theorem dX1_path_57 : decode cX1_path 57 = .ok (.goto 4, 3) := dk_167 0 4 (dk_at dksX1_path_2 10 rfl rfl)
theorem dX1_path_60 : decode cX1_path 60 = .ok (.iconst 0, 1) := dk_3 (dk_at dksX1_path_2 13 rfl rfl)
theorem dX1_path_61 : decode cX1_path 61 = .ok (.ireturn, 1) := dk_172 (dk_at dksX1_path_2 14 rfl rfl)
def dkwX1_rests_8 : List UInt8 := [167, 255, 172, 29, 2, 160, 0, 7, 4, 167, 0, 4, 3, 184, 0, 132, 21, 6, 172]
abbrev dktX1_rests_8 : List UInt8 := dkwX1_rests_8 ++ []
def dkwX1_rests_7 : List UInt8 := [154, 0, 6, 167, 0, 16, 29, 2, 159, 0, 8, 25, 7, 29, 46, 172, 132, 6, 1, 132, 8, 1]
abbrev dktX1_rests_7 : List UInt8 := dkwX1_rests_7 ++ dktX1_rests_8
def dkwX1_rests_6 : List UInt8 := [180, 0, 16, 180, 0, 116, 108, 54, 9, 132, 10, 255, 167, 255, 221, 42, 25, 7, 25, 4, 182, 1, 23]
abbrev dktX1_rests_6 : List UInt8 := dkwX1_rests_6 ++ dktX1_rests_7
def dkwX1_rests_5 : List UInt8 := [21, 10, 155, 0, 36, 25, 7, 21, 10, 21, 9, 42, 180, 0, 16, 180, 0, 116, 112, 79, 21, 9, 42]
abbrev dktX1_rests_5 : List UInt8 := dkwX1_rests_5 ++ dktX1_rests_6
def dkwX1_rests_4 : List UInt8 := [28, 188, 10, 58, 7, 3, 54, 8, 21, 8, 21, 5, 162, 0, 83, 21, 8, 54, 9, 28, 4, 100, 54, 10]
abbrev dktX1_rests_4 : List UInt8 := dkwX1_rests_4 ++ dktX1_rests_5
def dkwX1_rests_3 : List UInt8 := [162, 0, 21, 21, 5, 42, 180, 0, 16, 180, 0, 116, 104, 54, 5, 132, 6, 1, 167, 255, 235, 3, 54, 6]
abbrev dktX1_rests_3 : List UInt8 := dkwX1_rests_3 ++ dktX1_rests_4
def dkwX1_rests_2 : List UInt8 := [25, 4, 21, 6, 42, 21, 6, 27, 182, 1, 20, 79, 132, 6, 1, 167, 255, 229, 3, 54, 6, 21, 6, 28]
abbrev dktX1_rests_2 : List UInt8 := dkwX1_rests_2 ++ dktX1_rests_3
def dkwX1_rests_1 : List UInt8 := [16, 8, 188, 10, 58, 4, 4, 54, 5, 3, 54, 6, 21, 6, 42, 180, 0, 16, 180, 0, 116, 162, 0, 21]
abbrev dktX1_rests_1 : List UInt8 := dkwX1_rests_1 ++ dktX1_rests_2
def dkwX1_rests_0 : List UInt8 := [27, 184, 0, 175, 28, 4, 6, 184, 0, 128, 184, 0, 56, 29, 2, 28, 4, 100, 184, 0, 128, 184, 0, 132]
abbrev dktX1_rests_0 : List UInt8 := dkwX1_rests_0 ++ dktX1_rests_1
theorem dksX1_rests_0 : cX1_rests.data.toList.drop 0 = dktX1_rests_0 := by decide +kernel
theorem dksX1_rests_1 : cX1_rests.data.toList.drop 24 = dktX1_rests_1 := dk_seg dksX1_rests_0 24 rfl rfl
theorem dksX1_rests_2 : cX1_rests.data.toList.drop 48 = dktX1_rests_2 := dk_seg dksX1_rests_1 24 rfl rfl
theorem dksX1_rests_3 : cX1_rests.data.toList.drop 72 = dktX1_rests_3 := dk_seg dksX1_rests_2 24 rfl rfl
theorem dksX1_rests_4 : cX1_rests.data.toList.drop 96 = dktX1_rests_4 := dk_seg dksX1_rests_3 24 rfl rfl
theorem dksX1_rests_5 : cX1_rests.data.toList.drop 120 = dktX1_rests_5 := dk_seg dksX1_rests_4 24 rfl rfl
theorem dksX1_rests_6 : cX1_rests.data.toList.drop 143 = dktX1_rests_6 := dk_seg dksX1_rests_5 23 rfl rfl
theorem dksX1_rests_7 : cX1_rests.data.toList.drop 166 = dktX1_rests_7 := dk_seg dksX1_rests_6 23 rfl rfl
theorem dksX1_rests_8 : cX1_rests.data.toList.drop 188 = dktX1_rests_8 := dk_seg dksX1_rests_7 22 rfl rfl
theorem dX1_rests_0 : decode cX1_rests 0 = .ok (.iload_n 1, 1) := dk_27 (dk_at dksX1_rests_0 0 rfl rfl)
theorem dX1_rests_1 : decode cX1_rests 1 = .ok (.invokestatic 175, 3) := dk_184 0 175 (dk_at dksX1_rests_0 1 rfl rfl)
theorem dX1_rests_4 : decode cX1_rests 4 = .ok (.iload_n 2, 1) := dk_28 (dk_at dksX1_rests_0 4 rfl rfl)
theorem dX1_rests_5 : decode cX1_rests 5 = .ok (.iconst 1, 1) := dk_4 (dk_at dksX1_rests_0 5 rfl rfl)
theorem dX1_rests_6 : decode cX1_rests 6 = .ok (.iconst 3, 1) := dk_6 (dk_at dksX1_rests_0 6 rfl rfl)
theorem dX1_rests_7 : decode cX1_rests 7 = .ok (.invokestatic 128, 3) := dk_184 0 128 (dk_at dksX1_rests_0 7 rfl rfl)
theorem dX1_rests_10 : decode cX1_rests 10 = .ok (.invokestatic 56, 3) := dk_184 0 56 (dk_at dksX1_rests_0 10 rfl rfl)
theorem dX1_rests_13 : decode cX1_rests 13 = .ok (.iload_n 3, 1) := dk_29 (dk_at dksX1_rests_0 13 rfl rfl)
theorem dX1_rests_14 : decode cX1_rests 14 = .ok (.iconst (-1), 1) := dk_2 (dk_at dksX1_rests_0 14 rfl rfl)
theorem dX1_rests_15 : decode cX1_rests 15 = .ok (.iload_n 2, 1) := dk_28 (dk_at dksX1_rests_0 15 rfl rfl)
theorem dX1_rests_16 : decode cX1_rests 16 = .ok (.iconst 1, 1) := dk_4 (dk_at dksX1_rests_0 16 rfl rfl)
theorem dX1_rests_17 : decode cX1_rests 17 = .ok (.isub, 1) := dk_100 (dk_at dksX1_rests_0 17 rfl rfl)
theorem dX1_rests_18 : decode cX1_rests 18 = .ok (.invokestatic 128, 3) := dk_184 0 128 (dk_at dksX1_rests_0 18 rfl rfl)
theorem dX1_rests_21 : decode cX1_rests 21 = .ok (.invokestatic 132, 3) := dk_184 0 132 (dk_at dksX1_rests_0 21 rfl rfl)
theorem dX1_rests_24 : decode cX1_rests 24 = .ok (.bipush 8, 2) := dk_16 8 (dk_at dksX1_rests_1 0 rfl rfl)
theorem dX1_rests_26 : decode cX1_rests 26 = .ok (.newarray .int, 2) := dk_188_10 (dk_at dksX1_rests_1 2 rfl rfl)
theorem dX1_rests_28 : decode cX1_rests 28 = .ok (.astore 4, 2) := dk_58 4 (dk_at dksX1_rests_1 4 rfl rfl)
theorem dX1_rests_30 : decode cX1_rests 30 = .ok (.iconst 1, 1) := dk_4 (dk_at dksX1_rests_1 6 rfl rfl)
theorem dX1_rests_31 : decode cX1_rests 31 = .ok (.istore 5, 2) := dk_54 5 (dk_at dksX1_rests_1 7 rfl rfl)
theorem dX1_rests_33 : decode cX1_rests 33 = .ok (.iconst 0, 1) := dk_3 (dk_at dksX1_rests_1 9 rfl rfl)
theorem dX1_rests_34 : decode cX1_rests 34 = .ok (.istore 6, 2) := dk_54 6 (dk_at dksX1_rests_1 10 rfl rfl)
theorem dX1_rests_36 : decode cX1_rests 36 = .ok (.iload 6, 2) := dk_21 6 (dk_at dksX1_rests_1 12 rfl rfl)
theorem dX1_rests_38 : decode cX1_rests 38 = .ok (.aload_n 0, 1) := dk_42 (dk_at dksX1_rests_1 14 rfl rfl)
theorem dX1_rests_39 : decode cX1_rests 39 = .ok (.getfield 16, 3) := dk_180 0 16 (dk_at dksX1_rests_1 15 rfl rfl)
theorem dX1_rests_42 : decode cX1_rests 42 = .ok (.getfield 116, 3) := dk_180 0 116 (dk_at dksX1_rests_1 18 rfl rfl)
theorem dX1_rests_45 : decode cX1_rests 45 = .ok (.if_icmp .ge 21, 3) := dk_162 0 21 (dk_at dksX1_rests_1 21 rfl rfl)
theorem dX1_rests_48 : decode cX1_rests 48 = .ok (.aload 4, 2) := dk_25 4 (dk_at dksX1_rests_2 0 rfl rfl)
theorem dX1_rests_50 : decode cX1_rests 50 = .ok (.iload 6, 2) := dk_21 6 (dk_at dksX1_rests_2 2 rfl rfl)
theorem dX1_rests_52 : decode cX1_rests 52 = .ok (.aload_n 0, 1) := dk_42 (dk_at dksX1_rests_2 4 rfl rfl)
theorem dX1_rests_53 : decode cX1_rests 53 = .ok (.iload 6, 2) := dk_21 6 (dk_at dksX1_rests_2 5 rfl rfl)
theorem dX1_rests_55 : decode cX1_rests 55 = .ok (.iload_n 1, 1) := dk_27 (dk_at dksX1_rests_2 7 rfl rfl)
theorem dX1_rests_56 : decode cX1_rests 56 = .ok (.invokevirtual 276, 3) := dk_182 1 20 (dk_at dksX1_rests_2 8 rfl rfl)
theorem dX1_rests_59 : decode cX1_rests 59 = .ok (.iastore, 1) := dk_79 (dk_at dksX1_rests_2 11 rfl rfl)
theorem dX1_rests_60 : decode cX1_rests 60 = .ok (.iinc 6 1, 3) := dk_132 6 1 (dk_at dksX1_rests_2 12 rfl rfl)
theorem dX1_rests_63 : decode cX1_rests 63 = .ok (.goto (-27), 3) := dk_167 255 229 (dk_at dksX1_rests_2 15 rfl rfl)
theorem dX1_rests_66 : decode cX1_rests 66 = .ok (.iconst 0, 1) := dk_3 (dk_at dksX1_rests_2 18 rfl rfl)
theorem dX1_rests_67 : decode cX1_rests 67 = .ok (.istore 6, 2) := dk_54 6 (dk_at dksX1_rests_2 19 rfl rfl)
theorem dX1_rests_69 : decode cX1_rests 69 = .ok (.iload 6, 2) := dk_21 6 (dk_at dksX1_rests_2 21 rfl rfl)
theorem dX1_rests_71 : decode cX1_rests 71 = .ok (.iload_n 2, 1) := dk_28 (dk_at dksX1_rests_2 23 rfl rfl)
theorem dX1_rests_72 : decode cX1_rests 72 = .ok (.if_icmp .ge 21, 3) := dk_162 0 21 (dk_at dksX1_rests_3 0 rfl rfl)
theorem dX1_rests_75 : decode cX1_rests 75 = .ok (.iload 5, 2) := dk_21 5 (dk_at dksX1_rests_3 3 rfl rfl)
theorem dX1_rests_77 : decode cX1_rests 77 = .ok (.aload_n 0, 1) := dk_42 (dk_at dksX1_rests_3 5 rfl rfl)
theorem dX1_rests_78 : decode cX1_rests 78 = .ok (.getfield 16, 3) := dk_180 0 16 (dk_at dksX1_rests_3 6 rfl rfl)
theorem dX1_rests_81 : decode cX1_rests 81 = .ok (.getfield 116, 3) := dk_180 0 116 (dk_at dksX1_rests_3 9 rfl rfl)
theorem dX1_rests_84 : decode cX1_rests 84 = .ok (.imul, 1) := dk_104 (dk_at dksX1_rests_3 12 rfl rfl)
theorem dX1_rests_85 : decode cX1_rests 85 = .ok (.istore 5, 2) := dk_54 5 (dk_at dksX1_rests_3 13 rfl rfl)
theorem dX1_rests_87 : decode cX1_rests 87 = .ok (.iinc 6 1, 3) := dk_132 6 1 (dk_at dksX1_rests_3 15 rfl rfl)
theorem dX1_rests_90 : decode cX1_rests 90 = .ok (.goto (-21), 3) := dk_167 255 235 (dk_at dksX1_rests_3 18 rfl rfl)
theorem dX1_rests_93 : decode cX1_rests 93 = .ok (.iconst 0, 1) := dk_3 (dk_at dksX1_rests_3 21 rfl rfl)
theorem dX1_rests_94 : decode cX1_rests 94 = .ok (.istore 6, 2) := dk_54 6 (dk_at dksX1_rests_3 22 rfl rfl)
theorem dX1_rests_96 : decode cX1_rests 96 = .ok (.iload_n 2, 1) := dk_28 (dk_at dksX1_rests_4 0 rfl rfl)
theorem dX1_rests_97 : decode cX1_rests 97 = .ok (.newarray .int, 2) := dk_188_10 (dk_at dksX1_rests_4 1 rfl rfl)
theorem dX1_rests_99 : decode cX1_rests 99 = .ok (.astore 7, 2) := dk_58 7 (dk_at dksX1_rests_4 3 rfl rfl)
theorem dX1_rests_101 : decode cX1_rests 101 = .ok (.iconst 0, 1) := dk_3 (dk_at dksX1_rests_4 5 rfl rfl)
theorem dX1_rests_102 : decode cX1_rests 102 = .ok (.istore 8, 2) := dk_54 8 (dk_at dksX1_rests_4 6 rfl rfl)
theorem dX1_rests_104 : decode cX1_rests 104 = .ok (.iload 8, 2) := dk_21 8 (dk_at dksX1_rests_4 8 rfl rfl)
theorem dX1_rests_106 : decode cX1_rests 106 = .ok (.iload 5, 2) := dk_21 5 (dk_at dksX1_rests_4 10 rfl rfl)
theorem dX1_rests_108 : decode cX1_rests 108 = .ok (.if_icmp .ge 83, 3) := dk_162 0 83 (dk_at dksX1_rests_4 12 rfl rfl)
theorem dX1_rests_111 : decode cX1_rests 111 = .ok (.iload 8, 2) := dk_21 8 (dk_at dksX1_rests_4 15 rfl rfl)
theorem dX1_rests_113 : decode cX1_rests 113 = .ok (.istore 9, 2) := dk_54 9 (dk_at dksX1_rests_4 17 rfl rfl)
theorem dX1_rests_115 : decode cX1_rests 115 = .ok (.iload_n 2, 1) := dk_28 (dk_at dksX1_rests_4 19 rfl rfl)
theorem dX1_rests_116 : decode cX1_rests 116 = .ok (.iconst 1, 1) := dk_4 (dk_at dksX1_rests_4 20 rfl rfl)
theorem dX1_rests_117 : decode cX1_rests 117 = .ok (.isub, 1) := dk_100 (dk_at dksX1_rests_4 21 rfl rfl)
theorem dX1_rests_118 : decode cX1_rests 118 = .ok (.istore 10, 2) := dk_54 10 (dk_at dksX1_rests_4 22 rfl rfl)
theorem dX1_rests_120 : decode cX1_rests 120 = .ok (.iload 10, 2) := dk_21 10 (dk_at dksX1_rests_5 0 rfl rfl)
theorem dX1_rests_122 : decode cX1_rests 122 = .ok (.ifCond .lt 36, 3) := dk_155 0 36 (dk_at dksX1_rests_5 2 rfl rfl)
theorem dX1_rests_125 : decode cX1_rests 125 = .ok (.aload 7, 2) := dk_25 7 (dk_at dksX1_rests_5 5 rfl rfl)
theorem dX1_rests_127 : decode cX1_rests 127 = .ok (.iload 10, 2) := dk_21 10 (dk_at dksX1_rests_5 7 rfl rfl)
theorem dX1_rests_129 : decode cX1_rests 129 = .ok (.iload 9, 2) := dk_21 9 (dk_at dksX1_rests_5 9 rfl rfl)
theorem dX1_rests_131 : decode cX1_rests 131 = .ok (.aload_n 0, 1) := dk_42 (dk_at dksX1_rests_5 11 rfl rfl)
theorem dX1_rests_132 : decode cX1_rests 132 = .ok (.getfield 16, 3) := dk_180 0 16 (dk_at dksX1_rests_5 12 rfl rfl)
theorem dX1_rests_135 : decode cX1_rests 135 = .ok (.getfield 116, 3) := dk_180 0 116 (dk_at dksX1_rests_5 15 rfl rfl)
theorem dX1_rests_138 : decode cX1_rests 138 = .ok (.irem, 1) := dk_112 (dk_at dksX1_rests_5 18 rfl rfl)
theorem dX1_rests_139 : decode cX1_rests 139 = .ok (.iastore, 1) := dk_79 (dk_at dksX1_rests_5 19 rfl rfl)
theorem dX1_rests_140 : decode cX1_rests 140 = .ok (.iload 9, 2) := dk_21 9 (dk_at dksX1_rests_5 20 rfl rfl)
theorem dX1_rests_142 : decode cX1_rests 142 = .ok (.aload_n 0, 1) := dk_42 (dk_at dksX1_rests_5 22 rfl rfl)
theorem dX1_rests_143 : decode cX1_rests 143 = .ok (.getfield 16, 3) := dk_180 0 16 (dk_at dksX1_rests_6 0 rfl rfl)
theorem dX1_rests_146 : decode cX1_rests 146 = .ok (.getfield 116, 3) := dk_180 0 116 (dk_at dksX1_rests_6 3 rfl rfl)
theorem dX1_rests_149 : decode cX1_rests 149 = .ok (.idiv, 1) := dk_108 (dk_at dksX1_rests_6 6 rfl rfl)
theorem dX1_rests_150 : decode cX1_rests 150 = .ok (.istore 9, 2) := dk_54 9 (dk_at dksX1_rests_6 7 rfl rfl)
theorem dX1_rests_152 : decode cX1_rests 152 = .ok (.iinc 10 (-1), 3) := dk_132 10 255 (dk_at dksX1_rests_6 9 rfl rfl)
theorem dX1_rests_155 : decode cX1_rests 155 = .ok (.goto (-35), 3) := dk_167 255 221 (dk_at dksX1_rests_6 12 rfl rfl)
theorem dX1_rests_158 : decode cX1_rests 158 = .ok (.aload_n 0, 1) := dk_42 (dk_at dksX1_rests_6 15 rfl rfl)
theorem dX1_rests_159 : decode cX1_rests 159 = .ok (.aload 7, 2) := dk_25 7 (dk_at dksX1_rests_6 16 rfl rfl)
theorem dX1_rests_161 : decode cX1_rests 161 = .ok (.aload 4, 2) := dk_25 4 (dk_at dksX1_rests_6 18 rfl rfl)
theorem dX1_rests_163 : decode cX1_rests 163 = .ok (.invokevirtual 279, 3) := dk_182 1 23 (dk_at dksX1_rests_6 20 rfl rfl)
theorem dX1_rests_166 : decode cX1_rests 166 = .ok (.ifCond .ne 6, 3) := dk_154 0 6 (dk_at dksX1_rests_7 0 rfl rfl)
theorem dX1_rests_169 : decode cX1_rests 169 = .ok (.goto 16, 3) := dk_167 0 16 (dk_at dksX1_rests_7 3 rfl rfl)
theorem dX1_rests_172 : decode cX1_rests 172 = .ok (.iload_n 3, 1) := dk_29 (dk_at dksX1_rests_7 6 rfl rfl)
theorem dX1_rests_173 : decode cX1_rests 173 = .ok (.iconst (-1), 1) := dk_2 (dk_at dksX1_rests_7 7 rfl rfl)
theorem dX1_rests_174 : decode cX1_rests 174 = .ok (.if_icmp .eq 8, 3) := dk_159 0 8 (dk_at dksX1_rests_7 8 rfl rfl)
theorem dX1_rests_177 : decode cX1_rests 177 = .ok (.aload 7, 2) := dk_25 7 (dk_at dksX1_rests_7 11 rfl rfl)
theorem dX1_rests_179 : decode cX1_rests 179 = .ok (.iload_n 3, 1) := dk_29 (dk_at dksX1_rests_7 13 rfl rfl)
theorem dX1_rests_180 : decode cX1_rests 180 = .ok (.iaload, 1) := dk_46 (dk_at dksX1_rests_7 14 rfl rfl)
theorem dX1_rests_181 : decode cX1_rests 181 = .ok (.ireturn, 1) := dk_172 (dk_at dksX1_rests_7 15 rfl rfl)
theorem dX1_rests_182 : decode cX1_rests 182 = .ok (.iinc 6 1, 3) := dk_132 6 1 (dk_at dksX1_rests_7 16 rfl rfl)
theorem dX1_rests_185 : decode cX1_rests 185 = .ok (.iinc 8 1, 3) := dk_132 8 1 (dk_at dksX1_rests_7 19 rfl rfl)
theorem dX1_rests_188 : decode cX1_rests 188 = .ok (.goto (-84), 3) := dk_167 255 172 (dk_at dksX1_rests_8 0 rfl rfl)
theorem dX1_rests_191 : decode cX1_rests 191 = .ok (.iload_n 3, 1) := dk_29 (dk_at dksX1_rests_8 3 rfl rfl)
theorem dX1_rests_192 : decode cX1_rests 192 = .ok (.iconst (-1), 1) := dk_2 (dk_at dksX1_rests_8 4 rfl rfl)
theorem dX1_rests_193 : decode cX1_rests 193 = .ok (.if_icmp .ne 7, 3) := dk_160 0 7 (dk_at dksX1_rests_8 5 rfl rfl)
theorem dX1_rests_196 : decode cX1_rests 196 = .ok (.iconst 1, 1) := dk_4 (dk_at dksX1_rests_8 8 rfl rfl)
theorem dX1_rests_197 : decode cX1_rests 197 = .ok (.goto 4, 3) := dk_167 0 4 (dk_at dksX1_rests_8 9 rfl rfl)
theorem dX1_rests_200 : decode cX1_rests 200 = .ok (.iconst 0, 1) := dk_3 (dk_at dksX1_rests_8 12 rfl rfl)
theorem dX1_rests_201 : decode cX1_rests 201 = .ok (.invokestatic 132, 3) := dk_184 0 132 (dk_at dksX1_rests_8 13 rfl rfl)
theorem dX1_rests_204 : decode cX1_rests 204 = .ok (.iload 6, 2) := dk_21 6 (dk_at dksX1_rests_8 16 rfl rfl)
theorem dX1_rests_206 : decode cX1_rests 206 = .ok (.ireturn, 1) := dk_172 (dk_at dksX1_rests_8 18 rfl rfl)
def dkwX1_isRest_3 : List UInt8 := [29, 21, 4, 79, 21, 6, 153, 0, 5, 3, 172, 132, 3, 1, 167, 255, 172, 4, 172]
abbrev dktX1_isRest_3 : List UInt8 := dkwX1_isRest_3 ++ []
def dkwX1_isRest_2 : List UInt8 := [44, 184, 1, 16, 21, 5, 164, 0, 7, 4, 167, 0, 4, 3, 128, 54, 6, 132, 7, 1, 167, 255, 215, 43]
abbrev dktX1_isRest_2 : List UInt8 := dkwX1_isRest_2 ++ dktX1_isRest_3
def dkwX1_isRest_1 : List UInt8 := [3, 54, 7, 21, 7, 42, 180, 0, 16, 180, 0, 116, 162, 0, 35, 43, 29, 21, 7, 79, 21, 6, 43, 29]
abbrev dktX1_isRest_1 : List UInt8 := dkwX1_isRest_1 ++ dktX1_isRest_2
def dkwX1_isRest_0 : List UInt8 := [3, 62, 29, 43, 190, 162, 0, 84, 43, 29, 46, 54, 4, 43, 29, 44, 184, 1, 16, 54, 5, 3, 54, 6]
abbrev dktX1_isRest_0 : List UInt8 := dkwX1_isRest_0 ++ dktX1_isRest_1
theorem dksX1_isRest_0 : cX1_isRest.data.toList.drop 0 = dktX1_isRest_0 := by decide +kernel
theorem dksX1_isRest_1 : cX1_isRest.data.toList.drop 24 = dktX1_isRest_1 := dk_seg dksX1_isRest_0 24 rfl rfl
theorem dksX1_isRest_2 : cX1_isRest.data.toList.drop 48 = dktX1_isRest_2 := dk_seg dksX1_isRest_1 24 rfl rfl
theorem dksX1_isRest_3 : cX1_isRest.data.toList.drop 72 = dktX1_isRest_3 := dk_seg dksX1_isRest_2 24 rfl rfl
theorem dX1_isRest_0 : decode cX1_isRest 0 = .ok (.iconst 0, 1) := dk_3 (dk_at dksX1_isRest_0 0 rfl rfl)
theorem dX1_isRest_1 : decode cX1_isRest 1 = .ok (.istore_n 3, 1) := dk_62 (dk_at dksX1_isRest_0 1 rfl rfl)
theorem dX1_isRest_2 : decode cX1_isRest 2 = .ok (.iload_n 3, 1) := dk_29 (dk_at dksX1_isRest_0 2 rfl rfl)
theorem dX1_isRest_3 : decode cX1_isRest 3 = .ok (.aload_n 1, 1) := dk_43 (dk_at dksX1_isRest_0 3 rfl rfl)
theorem dX1_isRest_4 : decode cX1_isRest 4 = .ok (.arraylength, 1) := dk_190 (dk_at dksX1_isRest_0 4 rfl rfl)
theorem dX1_isRest_5 : decode cX1_isRest 5 = .ok (.if_icmp .ge 84, 3) := dk_162 0 84 (dk_at dksX1_isRest_0 5 rfl rfl)
theorem dX1_isRest_8 : decode cX1_isRest 8 = .ok (.aload_n 1, 1) := dk_43 (dk_at dksX1_isRest_0 8 rfl rfl)
theorem dX1_isRest_9 : decode cX1_isRest 9 = .ok (.iload_n 3, 1) := dk_29 (dk_at dksX1_isRest_0 9 rfl rfl)
theorem dX1_isRest_10 : decode cX1_isRest 10 = .ok (.iaload, 1) := dk_46 (dk_at dksX1_isRest_0 10 rfl rfl)
theorem dX1_isRest_11 : decode cX1_isRest 11 = .ok (.istore 4, 2) := dk_54 4 (dk_at dksX1_isRest_0 11 rfl rfl)
theorem dX1_isRest_13 : decode cX1_isRest 13 = .ok (.aload_n 1, 1) := dk_43 (dk_at dksX1_isRest_0 13 rfl rfl)
theorem dX1_isRest_14 : decode cX1_isRest 14 = .ok (.iload_n 3, 1) := dk_29 (dk_at dksX1_isRest_0 14 rfl rfl)
theorem dX1_isRest_15 : decode cX1_isRest 15 = .ok (.aload_n 2, 1) := dk_44 (dk_at dksX1_isRest_0 15 rfl rfl)
theorem dX1_isRest_16 : decode cX1_isRest 16 = .ok (.invokestatic 272, 3) := dk_184 1 16 (dk_at dksX1_isRest_0 16 rfl rfl)
theorem dX1_isRest_19 : decode cX1_isRest 19 = .ok (.istore 5, 2) := dk_54 5 (dk_at dksX1_isRest_0 19 rfl rfl)
theorem dX1_isRest_21 : decode cX1_isRest 21 = .ok (.iconst 0, 1) := dk_3 (dk_at dksX1_isRest_0 21 rfl rfl)
theorem dX1_isRest_22 : decode cX1_isRest 22 = .ok (.istore 6, 2) := dk_54 6 (dk_at dksX1_isRest_0 22 rfl rfl)
theorem dX1_isRest_24 : decode cX1_isRest 24 = .ok (.iconst 0, 1) := dk_3 (dk_at dksX1_isRest_1 0 rfl rfl)
theorem dX1_isRest_25 : decode cX1_isRest 25 = .ok (.istore 7, 2) := dk_54 7 (dk_at dksX1_isRest_1 1 rfl rfl)
theorem dX1_isRest_27 : decode cX1_isRest 27 = .ok (.iload 7, 2) := dk_21 7 (dk_at dksX1_isRest_1 3 rfl rfl)
theorem dX1_isRest_29 : decode cX1_isRest 29 = .ok (.aload_n 0, 1) := dk_42 (dk_at dksX1_isRest_1 5 rfl rfl)
theorem dX1_isRest_30 : decode cX1_isRest 30 = .ok (.getfield 16, 3) := dk_180 0 16 (dk_at dksX1_isRest_1 6 rfl rfl)
theorem dX1_isRest_33 : decode cX1_isRest 33 = .ok (.getfield 116, 3) := dk_180 0 116 (dk_at dksX1_isRest_1 9 rfl rfl)
theorem dX1_isRest_36 : decode cX1_isRest 36 = .ok (.if_icmp .ge 35, 3) := dk_162 0 35 (dk_at dksX1_isRest_1 12 rfl rfl)
theorem dX1_isRest_39 : decode cX1_isRest 39 = .ok (.aload_n 1, 1) := dk_43 (dk_at dksX1_isRest_1 15 rfl rfl)
theorem dX1_isRest_40 : decode cX1_isRest 40 = .ok (.iload_n 3, 1) := dk_29 (dk_at dksX1_isRest_1 16 rfl rfl)
theorem dX1_isRest_41 : decode cX1_isRest 41 = .ok (.iload 7, 2) := dk_21 7 (dk_at dksX1_isRest_1 17 rfl rfl)
theorem dX1_isRest_43 : decode cX1_isRest 43 = .ok (.iastore, 1) := dk_79 (dk_at dksX1_isRest_1 19 rfl rfl)
theorem dX1_isRest_44 : decode cX1_isRest 44 = .ok (.iload 6, 2) := dk_21 6 (dk_at dksX1_isRest_1 20 rfl rfl)
theorem dX1_isRest_46 : decode cX1_isRest 46 = .ok (.aload_n 1, 1) := dk_43 (dk_at dksX1_isRest_1 22 rfl rfl)
theorem dX1_isRest_47 : decode cX1_isRest 47 = .ok (.iload_n 3, 1) := dk_29 (dk_at dksX1_isRest_1 23 rfl rfl)
theorem dX1_isRest_48 : decode cX1_isRest 48 = .ok (.aload_n 2, 1) := dk_44 (dk_at dksX1_isRest_2 0 rfl rfl)
theorem dX1_isRest_49 : decode cX1_isRest 49 = .ok (.invokestatic 272, 3) := dk_184 1 16 (dk_at dksX1_isRest_2 1 rfl rfl)
theorem dX1_isRest_52 : decode cX1_isRest 52 = .ok (.iload 5, 2) := dk_21 5 (dk_at dksX1_isRest_2 4 rfl rfl)
theorem dX1_isRest_54 : decode cX1_isRest 54 = .ok (.if_icmp .le 7, 3) := dk_164 0 7 (dk_at dksX1_isRest_2 6 rfl rfl)
theorem dX1_isRest_57 : decode cX1_isRest 57 = .ok (.iconst 1, 1) := dk_4 (dk_at dksX1_isRest_2 9 rfl rfl)
theorem dX1_isRest_58 : decode cX1_isRest 58 = .ok (.goto 4, 3) := dk_167 0 4 (dk_at dksX1_isRest_2 10 rfl rfl)
theorem dX1_isRest_61 : decode cX1_isRest 61 = .ok (.iconst 0, 1) := dk_3 (dk_at dksX1_isRest_2 13 rfl rfl)
theorem dX1_isRest_62 : decode cX1_isRest 62 = .ok (.ior, 1) := dk_128 (dk_at dksX1_isRest_2 14 rfl rfl)
theorem dX1_isRest_63 : decode cX1_isRest 63 = .ok (.istore 6, 2) := dk_54 6 (dk_at dksX1_isRest_2 15 rfl rfl)
theorem dX1_isRest_65 : decode cX1_isRest 65 = .ok (.iinc 7 1, 3) := dk_132 7 1 (dk_at dksX1_isRest_2 17 rfl rfl)
theorem dX1_isRest_68 : decode cX1_isRest 68 = .ok (.goto (-41), 3) := dk_167 255 215 (dk_at dksX1_isRest_2 20 rfl rfl)
theorem dX1_isRest_71 : decode cX1_isRest 71 = .ok (.aload_n 1, 1) := dk_43 (dk_at dksX1_isRest_2 23 rfl rfl)
theorem dX1_isRest_72 : decode cX1_isRest 72 = .ok (.iload_n 3, 1) := dk_29 (dk_at dksX1_isRest_3 0 rfl rfl)
theorem dX1_isRest_73 : decode cX1_isRest 73 = .ok (.iload 4, 2) := dk_21 4 (dk_at dksX1_isRest_3 1 rfl rfl)
theorem dX1_isRest_75 : decode cX1_isRest 75 = .ok (.iastore, 1) := dk_79 (dk_at dksX1_isRest_3 3 rfl rfl)
theorem dX1_isRest_76 : decode cX1_isRest 76 = .ok (.iload 6, 2) := dk_21 6 (dk_at dksX1_isRest_3 4 rfl rfl)
theorem dX1_isRest_78 : decode cX1_isRest 78 = .ok (.ifCond .eq 5, 3) := dk_153 0 5 (dk_at dksX1_isRest_3 6 rfl rfl)
theorem dX1_isRest_81 : decode cX1_isRest 81 = .ok (.iconst 0, 1) := dk_3 (dk_at dksX1_isRest_3 9 rfl rfl)
theorem dX1_isRest_82 : decode cX1_isRest 82 = .ok (.ireturn, 1) := dk_172 (dk_at dksX1_isRest_3 10 rfl rfl)
theorem dX1_isRest_83 : decode cX1_isRest 83 = .ok (.iinc 3 1, 3) := dk_132 3 1 (dk_at dksX1_isRest_3 11 rfl rfl)
theorem dX1_isRest_86 : decode cX1_isRest 86 = .ok (.goto (-84), 3) := dk_167 255 172 (dk_at dksX1_isRest_3 14 rfl rfl)
theorem dX1_isRest_89 : decode cX1_isRest 89 = .ok (.iconst 1, 1) := dk_4 (dk_at dksX1_isRest_3 17 rfl rfl)
theorem dX1_isRest_90 : decode cX1_isRest 90 = .ok (.ireturn, 1) := dk_172 (dk_at dksX1_isRest_3 18 rfl rfl)
def dkwX1_gain_1 : List UInt8 := [132, 3, 1, 132, 4, 1, 167, 255, 233, 44, 42, 27, 46, 46, 29, 108, 172]
abbrev dktX1_gain_1 : List UInt8 := dkwX1_gain_1 ++ []
def dkwX1_gain_0 : List UInt8 := [3, 62, 3, 54, 4, 21, 4, 42, 190, 162, 0, 22, 42, 21, 4, 46, 42, 27, 46, 160, 0, 6]
abbrev dktX1_gain_0 : List UInt8 := dkwX1_gain_0 ++ dktX1_gain_1
theorem dksX1_gain_0 : cX1_gain.data.toList.drop 0 = dktX1_gain_0 := by decide +kernel
theorem dksX1_gain_1 : cX1_gain.data.toList.drop 22 = dktX1_gain_1 := dk_seg dksX1_gain_0 22 rfl rfl
theorem dX1_gain_0 : decode cX1_gain 0 = .ok (.iconst 0, 1) := dk_3 (dk_at dksX1_gain_0 0 rfl rfl)
theorem dX1_gain_1 : decode cX1_gain 1 = .ok (.istore_n 3, 1) := dk_62 (dk_at dksX1_gain_0 1 rfl rfl)
theorem dX1_gain_2 : decode cX1_gain 2 = .ok (.iconst 0, 1) := dk_3 (dk_at dksX1_gain_0 2 rfl rfl)
theorem dX1_gain_3 : decode cX1_gain 3 = .ok (.istore 4, 2) := dk_54 4 (dk_at dksX1_gain_0 3 rfl rfl)
theorem dX1_gain_5 : decode cX1_gain 5 = .ok (.iload 4, 2) := dk_21 4 (dk_at dksX1_gain_0 5 rfl rfl)
theorem dX1_gain_7 : decode cX1_gain 7 = .ok (.aload_n 0, 1) := dk_42 (dk_at dksX1_gain_0 7 rfl rfl)
theorem dX1_gain_8 : decode cX1_gain 8 = .ok (.arraylength, 1) := dk_190 (dk_at dksX1_gain_0 8 rfl rfl)
theorem dX1_gain_9 : decode cX1_gain 9 = .ok (.if_icmp .ge 22, 3) := dk_162 0 22 (dk_at dksX1_gain_0 9 rfl rfl)
theorem dX1_gain_12 : decode cX1_gain 12 = .ok (.aload_n 0, 1) := dk_42 (dk_at dksX1_gain_0 12 rfl rfl)
theorem dX1_gain_13 : decode cX1_gain 13 = .ok (.iload 4, 2) := dk_21 4 (dk_at dksX1_gain_0 13 rfl rfl)
theorem dX1_gain_15 : decode cX1_gain 15 = .ok (.iaload, 1) := dk_46 (dk_at dksX1_gain_0 15 rfl rfl)
theorem dX1_gain_16 : decode cX1_gain 16 = .ok (.aload_n 0, 1) := dk_42 (dk_at dksX1_gain_0 16 rfl rfl)
theorem dX1_gain_17 : decode cX1_gain 17 = .ok (.iload_n 1, 1) := dk_27 (dk_at dksX1_gain_0 17 rfl rfl)
theorem dX1_gain_18 : decode cX1_gain 18 = .ok (.iaload, 1) := dk_46 (dk_at dksX1_gain_0 18 rfl rfl)
theorem dX1_gain_19 : decode cX1_gain 19 = .ok (.if_icmp .ne 6, 3) := dk_160 0 6 (dk_at dksX1_gain_0 19 rfl rfl)
theorem dX1_gain_22 : decode cX1_gain 22 = .ok (.iinc 3 1, 3) := dk_132 3 1 (dk_at dksX1_gain_1 0 rfl rfl)
theorem dX1_gain_25 : decode cX1_gain 25 = .ok (.iinc 4 1, 3) := dk_132 4 1 (dk_at dksX1_gain_1 3 rfl rfl)
theorem dX1_gain_28 : decode cX1_gain 28 = .ok (.goto (-23), 3) := dk_167 255 233 (dk_at dksX1_gain_1 6 rfl rfl)
theorem dX1_gain_31 : decode cX1_gain 31 = .ok (.aload_n 2, 1) := dk_44 (dk_at dksX1_gain_1 9 rfl rfl)
theorem dX1_gain_32 : decode cX1_gain 32 = .ok (.aload_n 0, 1) := dk_42 (dk_at dksX1_gain_1 10 rfl rfl)
theorem dX1_gain_33 : decode cX1_gain 33 = .ok (.iload_n 1, 1) := dk_27 (dk_at dksX1_gain_1 11 rfl rfl)
theorem dX1_gain_34 : decode cX1_gain 34 = .ok (.iaload, 1) := dk_46 (dk_at dksX1_gain_1 12 rfl rfl)
theorem dX1_gain_35 : decode cX1_gain 35 = .ok (.iaload, 1) := dk_46 (dk_at dksX1_gain_1 13 rfl rfl)
theorem dX1_gain_36 : decode cX1_gain 36 = .ok (.iload_n 3, 1) := dk_29 (dk_at dksX1_gain_1 14 rfl rfl)
theorem dX1_gain_37 : decode cX1_gain 37 = .ok (.idiv, 1) := dk_108 (dk_at dksX1_gain_1 15 rfl rfl)
theorem dX1_gain_38 : decode cX1_gain 38 = .ok (.ireturn, 1) := dk_172 (dk_at dksX1_gain_1 16 rfl rfl)
def dkwX1_fewest_2 : List UInt8 := [180, 1, 36, 181, 0, 99, 45, 180, 1, 39, 172]
abbrev dktX1_fewest_2 : List UInt8 := dkwX1_fewest_2 ++ []
def dkwX1_fewest_1 : List UInt8 := [187, 1, 27, 89, 42, 27, 28, 183, 1, 29, 78, 45, 3, 182, 1, 32, 154, 0, 5, 2, 172, 42, 45]
abbrev dktX1_fewest_1 : List UInt8 := dkwX1_fewest_1 ++ dktX1_fewest_2
def dkwX1_fewest_0 : List UInt8 := [27, 155, 0, 18, 27, 28, 163, 0, 13, 28, 16, 24, 162, 0, 7, 4, 167, 0, 4, 3, 184, 0, 56]
abbrev dktX1_fewest_0 : List UInt8 := dkwX1_fewest_0 ++ dktX1_fewest_1
theorem dksX1_fewest_0 : cX1_fewest.data.toList.drop 0 = dktX1_fewest_0 := by decide +kernel
theorem dksX1_fewest_1 : cX1_fewest.data.toList.drop 23 = dktX1_fewest_1 := dk_seg dksX1_fewest_0 23 rfl rfl
theorem dksX1_fewest_2 : cX1_fewest.data.toList.drop 46 = dktX1_fewest_2 := dk_seg dksX1_fewest_1 23 rfl rfl
theorem dX1_fewest_0 : decode cX1_fewest 0 = .ok (.iload_n 1, 1) := dk_27 (dk_at dksX1_fewest_0 0 rfl rfl)
theorem dX1_fewest_1 : decode cX1_fewest 1 = .ok (.ifCond .lt 18, 3) := dk_155 0 18 (dk_at dksX1_fewest_0 1 rfl rfl)
theorem dX1_fewest_4 : decode cX1_fewest 4 = .ok (.iload_n 1, 1) := dk_27 (dk_at dksX1_fewest_0 4 rfl rfl)
theorem dX1_fewest_5 : decode cX1_fewest 5 = .ok (.iload_n 2, 1) := dk_28 (dk_at dksX1_fewest_0 5 rfl rfl)
theorem dX1_fewest_6 : decode cX1_fewest 6 = .ok (.if_icmp .gt 13, 3) := dk_163 0 13 (dk_at dksX1_fewest_0 6 rfl rfl)
theorem dX1_fewest_9 : decode cX1_fewest 9 = .ok (.iload_n 2, 1) := dk_28 (dk_at dksX1_fewest_0 9 rfl rfl)
theorem dX1_fewest_10 : decode cX1_fewest 10 = .ok (.bipush 24, 2) := dk_16 24 (dk_at dksX1_fewest_0 10 rfl rfl)
theorem dX1_fewest_12 : decode cX1_fewest 12 = .ok (.if_icmp .ge 7, 3) := dk_162 0 7 (dk_at dksX1_fewest_0 12 rfl rfl)
theorem dX1_fewest_15 : decode cX1_fewest 15 = .ok (.iconst 1, 1) := dk_4 (dk_at dksX1_fewest_0 15 rfl rfl)
theorem dX1_fewest_16 : decode cX1_fewest 16 = .ok (.goto 4, 3) := dk_167 0 4 (dk_at dksX1_fewest_0 16 rfl rfl)
theorem dX1_fewest_19 : decode cX1_fewest 19 = .ok (.iconst 0, 1) := dk_3 (dk_at dksX1_fewest_0 19 rfl rfl)
theorem dX1_fewest_20 : decode cX1_fewest 20 = .ok (.invokestatic 56, 3) := dk_184 0 56 (dk_at dksX1_fewest_0 20 rfl rfl)
theorem dX1_fewest_23 : decode cX1_fewest 23 = .ok (.new 283, 3) := dk_187 1 27 (dk_at dksX1_fewest_1 0 rfl rfl)
theorem dX1_fewest_26 : decode cX1_fewest 26 = .ok (.dup, 1) := dk_89 (dk_at dksX1_fewest_1 3 rfl rfl)
theorem dX1_fewest_27 : decode cX1_fewest 27 = .ok (.aload_n 0, 1) := dk_42 (dk_at dksX1_fewest_1 4 rfl rfl)
theorem dX1_fewest_28 : decode cX1_fewest 28 = .ok (.iload_n 1, 1) := dk_27 (dk_at dksX1_fewest_1 5 rfl rfl)
theorem dX1_fewest_29 : decode cX1_fewest 29 = .ok (.iload_n 2, 1) := dk_28 (dk_at dksX1_fewest_1 6 rfl rfl)
theorem dX1_fewest_30 : decode cX1_fewest 30 = .ok (.invokespecial 285, 3) := dk_183 1 29 (dk_at dksX1_fewest_1 7 rfl rfl)
theorem dX1_fewest_33 : decode cX1_fewest 33 = .ok (.astore_n 3, 1) := dk_78 (dk_at dksX1_fewest_1 10 rfl rfl)
theorem dX1_fewest_34 : decode cX1_fewest 34 = .ok (.aload_n 3, 1) := dk_45 (dk_at dksX1_fewest_1 11 rfl rfl)
theorem dX1_fewest_35 : decode cX1_fewest 35 = .ok (.iconst 0, 1) := dk_3 (dk_at dksX1_fewest_1 12 rfl rfl)
theorem dX1_fewest_36 : decode cX1_fewest 36 = .ok (.invokevirtual 288, 3) := dk_182 1 32 (dk_at dksX1_fewest_1 13 rfl rfl)
theorem dX1_fewest_39 : decode cX1_fewest 39 = .ok (.ifCond .ne 5, 3) := dk_154 0 5 (dk_at dksX1_fewest_1 16 rfl rfl)
theorem dX1_fewest_42 : decode cX1_fewest 42 = .ok (.iconst (-1), 1) := dk_2 (dk_at dksX1_fewest_1 19 rfl rfl)
theorem dX1_fewest_43 : decode cX1_fewest 43 = .ok (.ireturn, 1) := dk_172 (dk_at dksX1_fewest_1 20 rfl rfl)
theorem dX1_fewest_44 : decode cX1_fewest 44 = .ok (.aload_n 0, 1) := dk_42 (dk_at dksX1_fewest_1 21 rfl rfl)
theorem dX1_fewest_45 : decode cX1_fewest 45 = .ok (.aload_n 3, 1) := dk_45 (dk_at dksX1_fewest_1 22 rfl rfl)
theorem dX1_fewest_46 : decode cX1_fewest 46 = .ok (.getfield 292, 3) := dk_180 1 36 (dk_at dksX1_fewest_2 0 rfl rfl)
theorem dX1_fewest_49 : decode cX1_fewest 49 = .ok (.putfield 99, 3) := dk_181 0 99 (dk_at dksX1_fewest_2 3 rfl rfl)
theorem dX1_fewest_52 : decode cX1_fewest 52 = .ok (.aload_n 3, 1) := dk_45 (dk_at dksX1_fewest_2 6 rfl rfl)
theorem dX1_fewest_53 : decode cX1_fewest 53 = .ok (.getfield 295, 3) := dk_180 1 39 (dk_at dksX1_fewest_2 7 rfl rfl)
theorem dX1_fewest_56 : decode cX1_fewest 56 = .ok (.ireturn, 1) := dk_172 (dk_at dksX1_fewest_2 10 rfl rfl)
def dkwX1_lender_1 : List UInt8 := [27, 46, 172]
abbrev dktX1_lender_1 : List UInt8 := dkwX1_lender_1 ++ []
def dkwX1_lender_0 : List UInt8 := [42, 27, 182, 0, 169, 42, 180, 0, 99, 198, 0, 7, 4, 167, 0, 4, 3, 184, 0, 132, 42, 180, 0, 99]
abbrev dktX1_lender_0 : List UInt8 := dkwX1_lender_0 ++ dktX1_lender_1
theorem dksX1_lender_0 : cX1_lender.data.toList.drop 0 = dktX1_lender_0 := by decide +kernel
theorem dksX1_lender_1 : cX1_lender.data.toList.drop 24 = dktX1_lender_1 := dk_seg dksX1_lender_0 24 rfl rfl
theorem dX1_lender_0 : decode cX1_lender 0 = .ok (.aload_n 0, 1) := dk_42 (dk_at dksX1_lender_0 0 rfl rfl)
theorem dX1_lender_1 : decode cX1_lender 1 = .ok (.iload_n 1, 1) := dk_27 (dk_at dksX1_lender_0 1 rfl rfl)
theorem dX1_lender_2 : decode cX1_lender 2 = .ok (.invokevirtual 169, 3) := dk_182 0 169 (dk_at dksX1_lender_0 2 rfl rfl)
theorem dX1_lender_5 : decode cX1_lender 5 = .ok (.aload_n 0, 1) := dk_42 (dk_at dksX1_lender_0 5 rfl rfl)
theorem dX1_lender_6 : decode cX1_lender 6 = .ok (.getfield 99, 3) := dk_180 0 99 (dk_at dksX1_lender_0 6 rfl rfl)
theorem dX1_lender_9 : decode cX1_lender 9 = .ok (.ifnull 7, 3) := dk_198 0 7 (dk_at dksX1_lender_0 9 rfl rfl)
theorem dX1_lender_12 : decode cX1_lender 12 = .ok (.iconst 1, 1) := dk_4 (dk_at dksX1_lender_0 12 rfl rfl)
theorem dX1_lender_13 : decode cX1_lender 13 = .ok (.goto 4, 3) := dk_167 0 4 (dk_at dksX1_lender_0 13 rfl rfl)
theorem dX1_lender_16 : decode cX1_lender 16 = .ok (.iconst 0, 1) := dk_3 (dk_at dksX1_lender_0 16 rfl rfl)
theorem dX1_lender_17 : decode cX1_lender 17 = .ok (.invokestatic 132, 3) := dk_184 0 132 (dk_at dksX1_lender_0 17 rfl rfl)
theorem dX1_lender_20 : decode cX1_lender 20 = .ok (.aload_n 0, 1) := dk_42 (dk_at dksX1_lender_0 20 rfl rfl)
theorem dX1_lender_21 : decode cX1_lender 21 = .ok (.getfield 99, 3) := dk_180 0 99 (dk_at dksX1_lender_0 21 rfl rfl)
theorem dX1_lender_24 : decode cX1_lender 24 = .ok (.iload_n 1, 1) := dk_27 (dk_at dksX1_lender_1 0 rfl rfl)
theorem dX1_lender_25 : decode cX1_lender 25 = .ok (.iaload, 1) := dk_46 (dk_at dksX1_lender_1 1 rfl rfl)
theorem dX1_lender_26 : decode cX1_lender 26 = .ok (.ireturn, 1) := dk_172 (dk_at dksX1_lender_1 2 rfl rfl)
def dkwX1_kinds_2 : List UInt8 := [4, 100, 46, 21, 4, 122, 153, 0, 9, 132, 4, 1, 167, 255, 242, 21, 4, 172]
abbrev dktX1_kinds_2 : List UInt8 := dkwX1_kinds_2 ++ []
def dkwX1_kinds_1 : List UInt8 := [184, 0, 56, 16, 40, 188, 10, 78, 28, 45, 184, 1, 43, 27, 162, 0, 5, 2, 172, 3, 54, 4, 45, 27]
abbrev dktX1_kinds_1 : List UInt8 := dkwX1_kinds_1 ++ dktX1_kinds_2
def dkwX1_kinds_0 : List UInt8 := [27, 4, 16, 40, 184, 0, 128, 153, 0, 14, 28, 184, 1, 40, 153, 0, 7, 4, 167, 0, 4, 3]
abbrev dktX1_kinds_0 : List UInt8 := dkwX1_kinds_0 ++ dktX1_kinds_1
theorem dksX1_kinds_0 : cX1_kinds.data.toList.drop 0 = dktX1_kinds_0 := by decide +kernel
theorem dksX1_kinds_1 : cX1_kinds.data.toList.drop 22 = dktX1_kinds_1 := dk_seg dksX1_kinds_0 22 rfl rfl
theorem dksX1_kinds_2 : cX1_kinds.data.toList.drop 46 = dktX1_kinds_2 := dk_seg dksX1_kinds_1 24 rfl rfl
theorem dX1_kinds_0 : decode cX1_kinds 0 = .ok (.iload_n 1, 1) := dk_27 (dk_at dksX1_kinds_0 0 rfl rfl)
theorem dX1_kinds_1 : decode cX1_kinds 1 = .ok (.iconst 1, 1) := dk_4 (dk_at dksX1_kinds_0 1 rfl rfl)
theorem dX1_kinds_2 : decode cX1_kinds 2 = .ok (.bipush 40, 2) := dk_16 40 (dk_at dksX1_kinds_0 2 rfl rfl)
theorem dX1_kinds_4 : decode cX1_kinds 4 = .ok (.invokestatic 128, 3) := dk_184 0 128 (dk_at dksX1_kinds_0 4 rfl rfl)
theorem dX1_kinds_7 : decode cX1_kinds 7 = .ok (.ifCond .eq 14, 3) := dk_153 0 14 (dk_at dksX1_kinds_0 7 rfl rfl)
theorem dX1_kinds_10 : decode cX1_kinds 10 = .ok (.iload_n 2, 1) := dk_28 (dk_at dksX1_kinds_0 10 rfl rfl)
theorem dX1_kinds_11 : decode cX1_kinds 11 = .ok (.invokestatic 296, 3) := dk_184 1 40 (dk_at dksX1_kinds_0 11 rfl rfl)
theorem dX1_kinds_14 : decode cX1_kinds 14 = .ok (.ifCond .eq 7, 3) := dk_153 0 7 (dk_at dksX1_kinds_0 14 rfl rfl)
theorem dX1_kinds_17 : decode cX1_kinds 17 = .ok (.iconst 1, 1) := dk_4 (dk_at dksX1_kinds_0 17 rfl rfl)
theorem dX1_kinds_18 : decode cX1_kinds 18 = .ok (.goto 4, 3) := dk_167 0 4 (dk_at dksX1_kinds_0 18 rfl rfl)
theorem dX1_kinds_21 : decode cX1_kinds 21 = .ok (.iconst 0, 1) := dk_3 (dk_at dksX1_kinds_0 21 rfl rfl)
theorem dX1_kinds_22 : decode cX1_kinds 22 = .ok (.invokestatic 56, 3) := dk_184 0 56 (dk_at dksX1_kinds_1 0 rfl rfl)
theorem dX1_kinds_25 : decode cX1_kinds 25 = .ok (.bipush 40, 2) := dk_16 40 (dk_at dksX1_kinds_1 3 rfl rfl)
theorem dX1_kinds_27 : decode cX1_kinds 27 = .ok (.newarray .int, 2) := dk_188_10 (dk_at dksX1_kinds_1 5 rfl rfl)
theorem dX1_kinds_29 : decode cX1_kinds 29 = .ok (.astore_n 3, 1) := dk_78 (dk_at dksX1_kinds_1 7 rfl rfl)
theorem dX1_kinds_30 : decode cX1_kinds 30 = .ok (.iload_n 2, 1) := dk_28 (dk_at dksX1_kinds_1 8 rfl rfl)
theorem dX1_kinds_31 : decode cX1_kinds 31 = .ok (.aload_n 3, 1) := dk_45 (dk_at dksX1_kinds_1 9 rfl rfl)
theorem dX1_kinds_32 : decode cX1_kinds 32 = .ok (.invokestatic 299, 3) := dk_184 1 43 (dk_at dksX1_kinds_1 10 rfl rfl)
theorem dX1_kinds_35 : decode cX1_kinds 35 = .ok (.iload_n 1, 1) := dk_27 (dk_at dksX1_kinds_1 13 rfl rfl)
theorem dX1_kinds_36 : decode cX1_kinds 36 = .ok (.if_icmp .ge 5, 3) := dk_162 0 5 (dk_at dksX1_kinds_1 14 rfl rfl)
theorem dX1_kinds_39 : decode cX1_kinds 39 = .ok (.iconst (-1), 1) := dk_2 (dk_at dksX1_kinds_1 17 rfl rfl)
theorem dX1_kinds_40 : decode cX1_kinds 40 = .ok (.ireturn, 1) := dk_172 (dk_at dksX1_kinds_1 18 rfl rfl)
theorem dX1_kinds_41 : decode cX1_kinds 41 = .ok (.iconst 0, 1) := dk_3 (dk_at dksX1_kinds_1 19 rfl rfl)
theorem dX1_kinds_42 : decode cX1_kinds 42 = .ok (.istore 4, 2) := dk_54 4 (dk_at dksX1_kinds_1 20 rfl rfl)
theorem dX1_kinds_44 : decode cX1_kinds 44 = .ok (.aload_n 3, 1) := dk_45 (dk_at dksX1_kinds_1 22 rfl rfl)
theorem dX1_kinds_45 : decode cX1_kinds 45 = .ok (.iload_n 1, 1) := dk_27 (dk_at dksX1_kinds_1 23 rfl rfl)
theorem dX1_kinds_46 : decode cX1_kinds 46 = .ok (.iconst 1, 1) := dk_4 (dk_at dksX1_kinds_2 0 rfl rfl)
theorem dX1_kinds_47 : decode cX1_kinds 47 = .ok (.isub, 1) := dk_100 (dk_at dksX1_kinds_2 1 rfl rfl)
theorem dX1_kinds_48 : decode cX1_kinds 48 = .ok (.iaload, 1) := dk_46 (dk_at dksX1_kinds_2 2 rfl rfl)
theorem dX1_kinds_49 : decode cX1_kinds 49 = .ok (.iload 4, 2) := dk_21 4 (dk_at dksX1_kinds_2 3 rfl rfl)
theorem dX1_kinds_51 : decode cX1_kinds 51 = .ok (.ishr, 1) := dk_122 (dk_at dksX1_kinds_2 5 rfl rfl)
theorem dX1_kinds_52 : decode cX1_kinds 52 = .ok (.ifCond .eq 9, 3) := dk_153 0 9 (dk_at dksX1_kinds_2 6 rfl rfl)
theorem dX1_kinds_55 : decode cX1_kinds 55 = .ok (.iinc 4 1, 3) := dk_132 4 1 (dk_at dksX1_kinds_2 9 rfl rfl)
theorem dX1_kinds_58 : decode cX1_kinds 58 = .ok (.goto (-14), 3) := dk_167 255 242 (dk_at dksX1_kinds_2 12 rfl rfl)
theorem dX1_kinds_61 : decode cX1_kinds 61 = .ok (.iload 4, 2) := dk_21 4 (dk_at dksX1_kinds_2 15 rfl rfl)
theorem dX1_kinds_63 : decode cX1_kinds 63 = .ok (.ireturn, 1) := dk_172 (dk_at dksX1_kinds_2 17 rfl rfl)
def dkwX1_isApart_0 : List UInt8 := [26, 4, 6, 184, 0, 128, 172]
abbrev dktX1_isApart_0 : List UInt8 := dkwX1_isApart_0 ++ []
theorem dksX1_isApart_0 : cX1_isApart.data.toList.drop 0 = dktX1_isApart_0 := by decide +kernel
theorem dX1_isApart_0 : decode cX1_isApart 0 = .ok (.iload_n 0, 1) := dk_26 (dk_at dksX1_isApart_0 0 rfl rfl)
theorem dX1_isApart_1 : decode cX1_isApart 1 = .ok (.iconst 1, 1) := dk_4 (dk_at dksX1_isApart_0 1 rfl rfl)
theorem dX1_isApart_2 : decode cX1_isApart 2 = .ok (.iconst 3, 1) := dk_6 (dk_at dksX1_isApart_0 2 rfl rfl)
theorem dX1_isApart_3 : decode cX1_isApart 3 = .ok (.invokestatic 128, 3) := dk_184 0 128 (dk_at dksX1_isApart_0 3 rfl rfl)
theorem dX1_isApart_6 : decode cX1_isApart 6 = .ok (.ireturn, 1) := dk_172 (dk_at dksX1_isApart_0 6 rfl rfl)
def dkwX1_words_3 : List UInt8 := [79, 132, 2, 1, 132, 3, 1, 167, 255, 182, 28, 172]
abbrev dktX1_words_3 : List UInt8 := dkwX1_words_3 ++ []
def dkwX1_words_2 : List UInt8 := [4, 167, 0, 4, 3, 54, 4, 132, 5, 1, 167, 255, 222, 21, 4, 154, 0, 6, 167, 0, 10, 43, 28, 29]
abbrev dktX1_words_2 : List UInt8 := dkwX1_words_2 ++ dktX1_words_3
def dkwX1_words_1 : List UInt8 := [21, 5, 28, 162, 0, 34, 21, 4, 153, 0, 29, 43, 21, 5, 46, 29, 130, 184, 0, 205, 26, 161, 0, 7]
abbrev dktX1_words_1 : List UInt8 := dkwX1_words_1 ++ dktX1_words_2
def dkwX1_words_0 : List UInt8 := [3, 61, 3, 62, 29, 17, 1, 0, 162, 0, 73, 28, 43, 190, 162, 0, 67, 4, 54, 4, 3, 54, 5]
abbrev dktX1_words_0 : List UInt8 := dkwX1_words_0 ++ dktX1_words_1
theorem dksX1_words_0 : cX1_words.data.toList.drop 0 = dktX1_words_0 := by decide +kernel
theorem dksX1_words_1 : cX1_words.data.toList.drop 23 = dktX1_words_1 := dk_seg dksX1_words_0 23 rfl rfl
theorem dksX1_words_2 : cX1_words.data.toList.drop 47 = dktX1_words_2 := dk_seg dksX1_words_1 24 rfl rfl
theorem dksX1_words_3 : cX1_words.data.toList.drop 71 = dktX1_words_3 := dk_seg dksX1_words_2 24 rfl rfl
theorem dX1_words_0 : decode cX1_words 0 = .ok (.iconst 0, 1) := dk_3 (dk_at dksX1_words_0 0 rfl rfl)
theorem dX1_words_1 : decode cX1_words 1 = .ok (.istore_n 2, 1) := dk_61 (dk_at dksX1_words_0 1 rfl rfl)
theorem dX1_words_2 : decode cX1_words 2 = .ok (.iconst 0, 1) := dk_3 (dk_at dksX1_words_0 2 rfl rfl)
theorem dX1_words_3 : decode cX1_words 3 = .ok (.istore_n 3, 1) := dk_62 (dk_at dksX1_words_0 3 rfl rfl)
theorem dX1_words_4 : decode cX1_words 4 = .ok (.iload_n 3, 1) := dk_29 (dk_at dksX1_words_0 4 rfl rfl)
theorem dX1_words_5 : decode cX1_words 5 = .ok (.sipush 256, 3) := dk_17 1 0 (dk_at dksX1_words_0 5 rfl rfl)
theorem dX1_words_8 : decode cX1_words 8 = .ok (.if_icmp .ge 73, 3) := dk_162 0 73 (dk_at dksX1_words_0 8 rfl rfl)
theorem dX1_words_11 : decode cX1_words 11 = .ok (.iload_n 2, 1) := dk_28 (dk_at dksX1_words_0 11 rfl rfl)
theorem dX1_words_12 : decode cX1_words 12 = .ok (.aload_n 1, 1) := dk_43 (dk_at dksX1_words_0 12 rfl rfl)
theorem dX1_words_13 : decode cX1_words 13 = .ok (.arraylength, 1) := dk_190 (dk_at dksX1_words_0 13 rfl rfl)
theorem dX1_words_14 : decode cX1_words 14 = .ok (.if_icmp .ge 67, 3) := dk_162 0 67 (dk_at dksX1_words_0 14 rfl rfl)
theorem dX1_words_17 : decode cX1_words 17 = .ok (.iconst 1, 1) := dk_4 (dk_at dksX1_words_0 17 rfl rfl)
theorem dX1_words_18 : decode cX1_words 18 = .ok (.istore 4, 2) := dk_54 4 (dk_at dksX1_words_0 18 rfl rfl)
theorem dX1_words_20 : decode cX1_words 20 = .ok (.iconst 0, 1) := dk_3 (dk_at dksX1_words_0 20 rfl rfl)
theorem dX1_words_21 : decode cX1_words 21 = .ok (.istore 5, 2) := dk_54 5 (dk_at dksX1_words_0 21 rfl rfl)
theorem dX1_words_23 : decode cX1_words 23 = .ok (.iload 5, 2) := dk_21 5 (dk_at dksX1_words_1 0 rfl rfl)
theorem dX1_words_25 : decode cX1_words 25 = .ok (.iload_n 2, 1) := dk_28 (dk_at dksX1_words_1 2 rfl rfl)
theorem dX1_words_26 : decode cX1_words 26 = .ok (.if_icmp .ge 34, 3) := dk_162 0 34 (dk_at dksX1_words_1 3 rfl rfl)
theorem dX1_words_29 : decode cX1_words 29 = .ok (.iload 4, 2) := dk_21 4 (dk_at dksX1_words_1 6 rfl rfl)
theorem dX1_words_31 : decode cX1_words 31 = .ok (.ifCond .eq 29, 3) := dk_153 0 29 (dk_at dksX1_words_1 8 rfl rfl)
theorem dX1_words_34 : decode cX1_words 34 = .ok (.aload_n 1, 1) := dk_43 (dk_at dksX1_words_1 11 rfl rfl)
theorem dX1_words_35 : decode cX1_words 35 = .ok (.iload 5, 2) := dk_21 5 (dk_at dksX1_words_1 12 rfl rfl)
theorem dX1_words_37 : decode cX1_words 37 = .ok (.iaload, 1) := dk_46 (dk_at dksX1_words_1 14 rfl rfl)
theorem dX1_words_38 : decode cX1_words 38 = .ok (.iload_n 3, 1) := dk_29 (dk_at dksX1_words_1 15 rfl rfl)
theorem dX1_words_39 : decode cX1_words 39 = .ok (.ixor, 1) := dk_130 (dk_at dksX1_words_1 16 rfl rfl)
theorem dX1_words_40 : decode cX1_words 40 = .ok (.invokestatic 205, 3) := dk_184 0 205 (dk_at dksX1_words_1 17 rfl rfl)
theorem dX1_words_43 : decode cX1_words 43 = .ok (.iload_n 0, 1) := dk_26 (dk_at dksX1_words_1 20 rfl rfl)
theorem dX1_words_44 : decode cX1_words 44 = .ok (.if_icmp .lt 7, 3) := dk_161 0 7 (dk_at dksX1_words_1 21 rfl rfl)
theorem dX1_words_47 : decode cX1_words 47 = .ok (.iconst 1, 1) := dk_4 (dk_at dksX1_words_2 0 rfl rfl)
theorem dX1_words_48 : decode cX1_words 48 = .ok (.goto 4, 3) := dk_167 0 4 (dk_at dksX1_words_2 1 rfl rfl)
theorem dX1_words_51 : decode cX1_words 51 = .ok (.iconst 0, 1) := dk_3 (dk_at dksX1_words_2 4 rfl rfl)
theorem dX1_words_52 : decode cX1_words 52 = .ok (.istore 4, 2) := dk_54 4 (dk_at dksX1_words_2 5 rfl rfl)
theorem dX1_words_54 : decode cX1_words 54 = .ok (.iinc 5 1, 3) := dk_132 5 1 (dk_at dksX1_words_2 7 rfl rfl)
theorem dX1_words_57 : decode cX1_words 57 = .ok (.goto (-34), 3) := dk_167 255 222 (dk_at dksX1_words_2 10 rfl rfl)
theorem dX1_words_60 : decode cX1_words 60 = .ok (.iload 4, 2) := dk_21 4 (dk_at dksX1_words_2 13 rfl rfl)
theorem dX1_words_62 : decode cX1_words 62 = .ok (.ifCond .ne 6, 3) := dk_154 0 6 (dk_at dksX1_words_2 15 rfl rfl)
theorem dX1_words_65 : decode cX1_words 65 = .ok (.goto 10, 3) := dk_167 0 10 (dk_at dksX1_words_2 18 rfl rfl)
theorem dX1_words_68 : decode cX1_words 68 = .ok (.aload_n 1, 1) := dk_43 (dk_at dksX1_words_2 21 rfl rfl)
theorem dX1_words_69 : decode cX1_words 69 = .ok (.iload_n 2, 1) := dk_28 (dk_at dksX1_words_2 22 rfl rfl)
theorem dX1_words_70 : decode cX1_words 70 = .ok (.iload_n 3, 1) := dk_29 (dk_at dksX1_words_2 23 rfl rfl)
theorem dX1_words_71 : decode cX1_words 71 = .ok (.iastore, 1) := dk_79 (dk_at dksX1_words_3 0 rfl rfl)
theorem dX1_words_72 : decode cX1_words 72 = .ok (.iinc 2 1, 3) := dk_132 2 1 (dk_at dksX1_words_3 1 rfl rfl)
theorem dX1_words_75 : decode cX1_words 75 = .ok (.iinc 3 1, 3) := dk_132 3 1 (dk_at dksX1_words_3 4 rfl rfl)
theorem dX1_words_78 : decode cX1_words 78 = .ok (.goto (-74), 3) := dk_167 255 182 (dk_at dksX1_words_3 7 rfl rfl)
theorem dX1_words_81 : decode cX1_words 81 = .ok (.iload_n 2, 1) := dk_28 (dk_at dksX1_words_3 10 rfl rfl)
theorem dX1_words_82 : decode cX1_words 82 = .ok (.ireturn, 1) := dk_172 (dk_at dksX1_words_3 11 rfl rfl)
def dkwX1_word_1 : List UInt8 := [184, 1, 43, 27, 164, 0, 9, 45, 27, 46, 167, 0, 4, 2, 172]
abbrev dktX1_word_1 : List UInt8 := dkwX1_word_1 ++ []
def dkwX1_word_0 : List UInt8 := [27, 3, 16, 39, 184, 0, 128, 184, 0, 132, 28, 184, 1, 40, 184, 0, 56, 16, 40, 188, 10, 78, 28, 45]
abbrev dktX1_word_0 : List UInt8 := dkwX1_word_0 ++ dktX1_word_1
theorem dksX1_word_0 : cX1_word.data.toList.drop 0 = dktX1_word_0 := by decide +kernel
theorem dksX1_word_1 : cX1_word.data.toList.drop 24 = dktX1_word_1 := dk_seg dksX1_word_0 24 rfl rfl
theorem dX1_word_0 : decode cX1_word 0 = .ok (.iload_n 1, 1) := dk_27 (dk_at dksX1_word_0 0 rfl rfl)
theorem dX1_word_1 : decode cX1_word 1 = .ok (.iconst 0, 1) := dk_3 (dk_at dksX1_word_0 1 rfl rfl)
theorem dX1_word_2 : decode cX1_word 2 = .ok (.bipush 39, 2) := dk_16 39 (dk_at dksX1_word_0 2 rfl rfl)
theorem dX1_word_4 : decode cX1_word 4 = .ok (.invokestatic 128, 3) := dk_184 0 128 (dk_at dksX1_word_0 4 rfl rfl)
theorem dX1_word_7 : decode cX1_word 7 = .ok (.invokestatic 132, 3) := dk_184 0 132 (dk_at dksX1_word_0 7 rfl rfl)
theorem dX1_word_10 : decode cX1_word 10 = .ok (.iload_n 2, 1) := dk_28 (dk_at dksX1_word_0 10 rfl rfl)
theorem dX1_word_11 : decode cX1_word 11 = .ok (.invokestatic 296, 3) := dk_184 1 40 (dk_at dksX1_word_0 11 rfl rfl)
theorem dX1_word_14 : decode cX1_word 14 = .ok (.invokestatic 56, 3) := dk_184 0 56 (dk_at dksX1_word_0 14 rfl rfl)
theorem dX1_word_17 : decode cX1_word 17 = .ok (.bipush 40, 2) := dk_16 40 (dk_at dksX1_word_0 17 rfl rfl)
theorem dX1_word_19 : decode cX1_word 19 = .ok (.newarray .int, 2) := dk_188_10 (dk_at dksX1_word_0 19 rfl rfl)
theorem dX1_word_21 : decode cX1_word 21 = .ok (.astore_n 3, 1) := dk_78 (dk_at dksX1_word_0 21 rfl rfl)
theorem dX1_word_22 : decode cX1_word 22 = .ok (.iload_n 2, 1) := dk_28 (dk_at dksX1_word_0 22 rfl rfl)
theorem dX1_word_23 : decode cX1_word 23 = .ok (.aload_n 3, 1) := dk_45 (dk_at dksX1_word_0 23 rfl rfl)
theorem dX1_word_24 : decode cX1_word 24 = .ok (.invokestatic 299, 3) := dk_184 1 43 (dk_at dksX1_word_1 0 rfl rfl)
theorem dX1_word_27 : decode cX1_word 27 = .ok (.iload_n 1, 1) := dk_27 (dk_at dksX1_word_1 3 rfl rfl)
theorem dX1_word_28 : decode cX1_word 28 = .ok (.if_icmp .le 9, 3) := dk_164 0 9 (dk_at dksX1_word_1 4 rfl rfl)
theorem dX1_word_31 : decode cX1_word 31 = .ok (.aload_n 3, 1) := dk_45 (dk_at dksX1_word_1 7 rfl rfl)
theorem dX1_word_32 : decode cX1_word 32 = .ok (.iload_n 1, 1) := dk_27 (dk_at dksX1_word_1 8 rfl rfl)
theorem dX1_word_33 : decode cX1_word 33 = .ok (.iaload, 1) := dk_46 (dk_at dksX1_word_1 9 rfl rfl)
theorem dX1_word_34 : decode cX1_word 34 = .ok (.goto 4, 3) := dk_167 0 4 (dk_at dksX1_word_1 10 rfl rfl)
theorem dX1_word_37 : decode cX1_word 37 = .ok (.iconst (-1), 1) := dk_2 (dk_at dksX1_word_1 13 rfl rfl)
theorem dX1_word_38 : decode cX1_word 38 = .ok (.ireturn, 1) := dk_172 (dk_at dksX1_word_1 14 rfl rfl)
def dkwX1_mend_3 : List UInt8 := [4, 100, 5, 108, 163, 0, 6, 21, 5, 172, 132, 5, 1, 167, 255, 226, 2, 172]
abbrev dktX1_mend_3 : List UInt8 := dkwX1_mend_3 ++ []
def dkwX1_mend_2 : List UInt8 := [3, 184, 0, 56, 3, 54, 5, 21, 5, 28, 162, 0, 30, 25, 4, 21, 5, 46, 27, 130, 184, 0, 205, 29]
abbrev dktX1_mend_2 : List UInt8 := dkwX1_mend_2 ++ dktX1_mend_3
def dkwX1_mend_1 : List UInt8 := [3, 17, 0, 255, 184, 0, 128, 153, 0, 17, 29, 25, 4, 184, 1, 43, 28, 161, 0, 7, 4, 167, 0, 4]
abbrev dktX1_mend_1 : List UInt8 := dkwX1_mend_1 ++ dktX1_mend_2
def dkwX1_mend_0 : List UInt8 := [16, 40, 188, 10, 58, 4, 28, 4, 16, 40, 184, 0, 128, 153, 0, 35, 29, 184, 1, 40, 153, 0, 28, 27]
abbrev dktX1_mend_0 : List UInt8 := dkwX1_mend_0 ++ dktX1_mend_1
theorem dksX1_mend_0 : cX1_mend.data.toList.drop 0 = dktX1_mend_0 := by decide +kernel
theorem dksX1_mend_1 : cX1_mend.data.toList.drop 24 = dktX1_mend_1 := dk_seg dksX1_mend_0 24 rfl rfl
theorem dksX1_mend_2 : cX1_mend.data.toList.drop 48 = dktX1_mend_2 := dk_seg dksX1_mend_1 24 rfl rfl
theorem dksX1_mend_3 : cX1_mend.data.toList.drop 72 = dktX1_mend_3 := dk_seg dksX1_mend_2 24 rfl rfl
theorem dX1_mend_0 : decode cX1_mend 0 = .ok (.bipush 40, 2) := dk_16 40 (dk_at dksX1_mend_0 0 rfl rfl)
theorem dX1_mend_2 : decode cX1_mend 2 = .ok (.newarray .int, 2) := dk_188_10 (dk_at dksX1_mend_0 2 rfl rfl)
theorem dX1_mend_4 : decode cX1_mend 4 = .ok (.astore 4, 2) := dk_58 4 (dk_at dksX1_mend_0 4 rfl rfl)
theorem dX1_mend_6 : decode cX1_mend 6 = .ok (.iload_n 2, 1) := dk_28 (dk_at dksX1_mend_0 6 rfl rfl)
theorem dX1_mend_7 : decode cX1_mend 7 = .ok (.iconst 1, 1) := dk_4 (dk_at dksX1_mend_0 7 rfl rfl)
theorem dX1_mend_8 : decode cX1_mend 8 = .ok (.bipush 40, 2) := dk_16 40 (dk_at dksX1_mend_0 8 rfl rfl)
theorem dX1_mend_10 : decode cX1_mend 10 = .ok (.invokestatic 128, 3) := dk_184 0 128 (dk_at dksX1_mend_0 10 rfl rfl)
theorem dX1_mend_13 : decode cX1_mend 13 = .ok (.ifCond .eq 35, 3) := dk_153 0 35 (dk_at dksX1_mend_0 13 rfl rfl)
theorem dX1_mend_16 : decode cX1_mend 16 = .ok (.iload_n 3, 1) := dk_29 (dk_at dksX1_mend_0 16 rfl rfl)
theorem dX1_mend_17 : decode cX1_mend 17 = .ok (.invokestatic 296, 3) := dk_184 1 40 (dk_at dksX1_mend_0 17 rfl rfl)
theorem dX1_mend_20 : decode cX1_mend 20 = .ok (.ifCond .eq 28, 3) := dk_153 0 28 (dk_at dksX1_mend_0 20 rfl rfl)
theorem dX1_mend_23 : decode cX1_mend 23 = .ok (.iload_n 1, 1) := dk_27 (dk_at dksX1_mend_0 23 rfl rfl)
theorem dX1_mend_24 : decode cX1_mend 24 = .ok (.iconst 0, 1) := dk_3 (dk_at dksX1_mend_1 0 rfl rfl)
theorem dX1_mend_25 : decode cX1_mend 25 = .ok (.sipush 255, 3) := dk_17 0 255 (dk_at dksX1_mend_1 1 rfl rfl)
theorem dX1_mend_28 : decode cX1_mend 28 = .ok (.invokestatic 128, 3) := dk_184 0 128 (dk_at dksX1_mend_1 4 rfl rfl)
theorem dX1_mend_31 : decode cX1_mend 31 = .ok (.ifCond .eq 17, 3) := dk_153 0 17 (dk_at dksX1_mend_1 7 rfl rfl)
theorem dX1_mend_34 : decode cX1_mend 34 = .ok (.iload_n 3, 1) := dk_29 (dk_at dksX1_mend_1 10 rfl rfl)
theorem dX1_mend_35 : decode cX1_mend 35 = .ok (.aload 4, 2) := dk_25 4 (dk_at dksX1_mend_1 11 rfl rfl)
theorem dX1_mend_37 : decode cX1_mend 37 = .ok (.invokestatic 299, 3) := dk_184 1 43 (dk_at dksX1_mend_1 13 rfl rfl)
theorem dX1_mend_40 : decode cX1_mend 40 = .ok (.iload_n 2, 1) := dk_28 (dk_at dksX1_mend_1 16 rfl rfl)
theorem dX1_mend_41 : decode cX1_mend 41 = .ok (.if_icmp .lt 7, 3) := dk_161 0 7 (dk_at dksX1_mend_1 17 rfl rfl)
theorem dX1_mend_44 : decode cX1_mend 44 = .ok (.iconst 1, 1) := dk_4 (dk_at dksX1_mend_1 20 rfl rfl)
theorem dX1_mend_45 : decode cX1_mend 45 = .ok (.goto 4, 3) := dk_167 0 4 (dk_at dksX1_mend_1 21 rfl rfl)
theorem dX1_mend_48 : decode cX1_mend 48 = .ok (.iconst 0, 1) := dk_3 (dk_at dksX1_mend_2 0 rfl rfl)
theorem dX1_mend_49 : decode cX1_mend 49 = .ok (.invokestatic 56, 3) := dk_184 0 56 (dk_at dksX1_mend_2 1 rfl rfl)
theorem dX1_mend_52 : decode cX1_mend 52 = .ok (.iconst 0, 1) := dk_3 (dk_at dksX1_mend_2 4 rfl rfl)
theorem dX1_mend_53 : decode cX1_mend 53 = .ok (.istore 5, 2) := dk_54 5 (dk_at dksX1_mend_2 5 rfl rfl)
theorem dX1_mend_55 : decode cX1_mend 55 = .ok (.iload 5, 2) := dk_21 5 (dk_at dksX1_mend_2 7 rfl rfl)
theorem dX1_mend_57 : decode cX1_mend 57 = .ok (.iload_n 2, 1) := dk_28 (dk_at dksX1_mend_2 9 rfl rfl)
theorem dX1_mend_58 : decode cX1_mend 58 = .ok (.if_icmp .ge 30, 3) := dk_162 0 30 (dk_at dksX1_mend_2 10 rfl rfl)
theorem dX1_mend_61 : decode cX1_mend 61 = .ok (.aload 4, 2) := dk_25 4 (dk_at dksX1_mend_2 13 rfl rfl)
theorem dX1_mend_63 : decode cX1_mend 63 = .ok (.iload 5, 2) := dk_21 5 (dk_at dksX1_mend_2 15 rfl rfl)
theorem dX1_mend_65 : decode cX1_mend 65 = .ok (.iaload, 1) := dk_46 (dk_at dksX1_mend_2 17 rfl rfl)
theorem dX1_mend_66 : decode cX1_mend 66 = .ok (.iload_n 1, 1) := dk_27 (dk_at dksX1_mend_2 18 rfl rfl)
theorem dX1_mend_67 : decode cX1_mend 67 = .ok (.ixor, 1) := dk_130 (dk_at dksX1_mend_2 19 rfl rfl)
theorem dX1_mend_68 : decode cX1_mend 68 = .ok (.invokestatic 205, 3) := dk_184 0 205 (dk_at dksX1_mend_2 20 rfl rfl)
theorem dX1_mend_71 : decode cX1_mend 71 = .ok (.iload_n 3, 1) := dk_29 (dk_at dksX1_mend_2 23 rfl rfl)
theorem dX1_mend_72 : decode cX1_mend 72 = .ok (.iconst 1, 1) := dk_4 (dk_at dksX1_mend_3 0 rfl rfl)
theorem dX1_mend_73 : decode cX1_mend 73 = .ok (.isub, 1) := dk_100 (dk_at dksX1_mend_3 1 rfl rfl)
theorem dX1_mend_74 : decode cX1_mend 74 = .ok (.iconst 2, 1) := dk_5 (dk_at dksX1_mend_3 2 rfl rfl)
theorem dX1_mend_75 : decode cX1_mend 75 = .ok (.idiv, 1) := dk_108 (dk_at dksX1_mend_3 3 rfl rfl)
theorem dX1_mend_76 : decode cX1_mend 76 = .ok (.if_icmp .gt 6, 3) := dk_163 0 6 (dk_at dksX1_mend_3 4 rfl rfl)
theorem dX1_mend_79 : decode cX1_mend 79 = .ok (.iload 5, 2) := dk_21 5 (dk_at dksX1_mend_3 7 rfl rfl)
theorem dX1_mend_81 : decode cX1_mend 81 = .ok (.ireturn, 1) := dk_172 (dk_at dksX1_mend_3 9 rfl rfl)
theorem dX1_mend_82 : decode cX1_mend 82 = .ok (.iinc 5 1, 3) := dk_132 5 1 (dk_at dksX1_mend_3 10 rfl rfl)
theorem dX1_mend_85 : decode cX1_mend 85 = .ok (.goto (-30), 3) := dk_167 255 226 (dk_at dksX1_mend_3 13 rfl rfl)
theorem dX1_mend_88 : decode cX1_mend 88 = .ok (.iconst (-1), 1) := dk_2 (dk_at dksX1_mend_3 16 rfl rfl)
theorem dX1_mend_89 : decode cX1_mend 89 = .ok (.ireturn, 1) := dk_172 (dk_at dksX1_mend_3 17 rfl rfl)
def dkwX1_fire_5 : List UInt8 := [22, 6, 22, 8, 101, 22, 10, 109, 167, 0, 8, 22, 6, 22, 10, 109, 173]
abbrev dktX1_fire_5 : List UInt8 := dkwX1_fire_5 ++ []
def dkwX1_fire_4 : List UInt8 := [132, 10, 255, 167, 255, 229, 22, 6, 22, 6, 22, 8, 101, 184, 1, 55, 55, 10, 21, 5, 154, 0, 14]
abbrev dktX1_fire_4 : List UInt8 := dkwX1_fire_4 ++ dktX1_fire_5
def dkwX1_fire_3 : List UInt8 := [21, 10, 158, 0, 28, 22, 6, 20, 1, 53, 105, 55, 6, 22, 8, 16, 10, 21, 4, 100, 133, 105, 55, 8]
abbrev dktX1_fire_3 : List UInt8 := dkwX1_fire_3 ++ dktX1_fire_4
def dkwX1_fire_2 : List UInt8 := [55, 6, 10, 55, 8, 5, 42, 27, 182, 0, 81, 180, 0, 172, 28, 100, 184, 1, 47, 184, 1, 50, 54, 10]
abbrev dktX1_fire_2 : List UInt8 := dkwX1_fire_2 ++ dktX1_fire_3
def dkwX1_fire_1 : List UInt8 := [184, 0, 128, 184, 0, 56, 42, 180, 0, 44, 16, 24, 27, 104, 29, 96, 46, 4, 159, 0, 5, 10, 173, 10]
abbrev dktX1_fire_1 : List UInt8 := dkwX1_fire_1 ++ dktX1_fire_2
def dkwX1_fire_0 : List UInt8 := [42, 27, 182, 0, 169, 42, 28, 182, 0, 138, 29, 184, 0, 175, 21, 5, 184, 0, 142, 21, 4, 3, 16, 10]
abbrev dktX1_fire_0 : List UInt8 := dkwX1_fire_0 ++ dktX1_fire_1
theorem dksX1_fire_0 : cX1_fire.data.toList.drop 0 = dktX1_fire_0 := by decide +kernel
theorem dksX1_fire_1 : cX1_fire.data.toList.drop 24 = dktX1_fire_1 := dk_seg dksX1_fire_0 24 rfl rfl
theorem dksX1_fire_2 : cX1_fire.data.toList.drop 48 = dktX1_fire_2 := dk_seg dksX1_fire_1 24 rfl rfl
theorem dksX1_fire_3 : cX1_fire.data.toList.drop 72 = dktX1_fire_3 := dk_seg dksX1_fire_2 24 rfl rfl
theorem dksX1_fire_4 : cX1_fire.data.toList.drop 96 = dktX1_fire_4 := dk_seg dksX1_fire_3 24 rfl rfl
theorem dksX1_fire_5 : cX1_fire.data.toList.drop 119 = dktX1_fire_5 := dk_seg dksX1_fire_4 23 rfl rfl
theorem dX1_fire_0 : decode cX1_fire 0 = .ok (.aload_n 0, 1) := dk_42 (dk_at dksX1_fire_0 0 rfl rfl)
theorem dX1_fire_1 : decode cX1_fire 1 = .ok (.iload_n 1, 1) := dk_27 (dk_at dksX1_fire_0 1 rfl rfl)
theorem dX1_fire_2 : decode cX1_fire 2 = .ok (.invokevirtual 169, 3) := dk_182 0 169 (dk_at dksX1_fire_0 2 rfl rfl)
theorem dX1_fire_5 : decode cX1_fire 5 = .ok (.aload_n 0, 1) := dk_42 (dk_at dksX1_fire_0 5 rfl rfl)
theorem dX1_fire_6 : decode cX1_fire 6 = .ok (.iload_n 2, 1) := dk_28 (dk_at dksX1_fire_0 6 rfl rfl)
theorem dX1_fire_7 : decode cX1_fire 7 = .ok (.invokevirtual 138, 3) := dk_182 0 138 (dk_at dksX1_fire_0 7 rfl rfl)
theorem dX1_fire_10 : decode cX1_fire 10 = .ok (.iload_n 3, 1) := dk_29 (dk_at dksX1_fire_0 10 rfl rfl)
theorem dX1_fire_11 : decode cX1_fire 11 = .ok (.invokestatic 175, 3) := dk_184 0 175 (dk_at dksX1_fire_0 11 rfl rfl)
theorem dX1_fire_14 : decode cX1_fire 14 = .ok (.iload 5, 2) := dk_21 5 (dk_at dksX1_fire_0 14 rfl rfl)
theorem dX1_fire_16 : decode cX1_fire 16 = .ok (.invokestatic 142, 3) := dk_184 0 142 (dk_at dksX1_fire_0 16 rfl rfl)
theorem dX1_fire_19 : decode cX1_fire 19 = .ok (.iload 4, 2) := dk_21 4 (dk_at dksX1_fire_0 19 rfl rfl)
theorem dX1_fire_21 : decode cX1_fire 21 = .ok (.iconst 0, 1) := dk_3 (dk_at dksX1_fire_0 21 rfl rfl)
theorem dX1_fire_22 : decode cX1_fire 22 = .ok (.bipush 10, 2) := dk_16 10 (dk_at dksX1_fire_0 22 rfl rfl)
theorem dX1_fire_24 : decode cX1_fire 24 = .ok (.invokestatic 128, 3) := dk_184 0 128 (dk_at dksX1_fire_1 0 rfl rfl)
theorem dX1_fire_27 : decode cX1_fire 27 = .ok (.invokestatic 56, 3) := dk_184 0 56 (dk_at dksX1_fire_1 3 rfl rfl)
theorem dX1_fire_30 : decode cX1_fire 30 = .ok (.aload_n 0, 1) := dk_42 (dk_at dksX1_fire_1 6 rfl rfl)
theorem dX1_fire_31 : decode cX1_fire 31 = .ok (.getfield 44, 3) := dk_180 0 44 (dk_at dksX1_fire_1 7 rfl rfl)
theorem dX1_fire_34 : decode cX1_fire 34 = .ok (.bipush 24, 2) := dk_16 24 (dk_at dksX1_fire_1 10 rfl rfl)
theorem dX1_fire_36 : decode cX1_fire 36 = .ok (.iload_n 1, 1) := dk_27 (dk_at dksX1_fire_1 12 rfl rfl)
theorem dX1_fire_37 : decode cX1_fire 37 = .ok (.imul, 1) := dk_104 (dk_at dksX1_fire_1 13 rfl rfl)
theorem dX1_fire_38 : decode cX1_fire 38 = .ok (.iload_n 3, 1) := dk_29 (dk_at dksX1_fire_1 14 rfl rfl)
theorem dX1_fire_39 : decode cX1_fire 39 = .ok (.iadd, 1) := dk_96 (dk_at dksX1_fire_1 15 rfl rfl)
theorem dX1_fire_40 : decode cX1_fire 40 = .ok (.iaload, 1) := dk_46 (dk_at dksX1_fire_1 16 rfl rfl)
theorem dX1_fire_41 : decode cX1_fire 41 = .ok (.iconst 1, 1) := dk_4 (dk_at dksX1_fire_1 17 rfl rfl)
theorem dX1_fire_42 : decode cX1_fire 42 = .ok (.if_icmp .eq 5, 3) := dk_159 0 5 (dk_at dksX1_fire_1 18 rfl rfl)
theorem dX1_fire_45 : decode cX1_fire 45 = .ok (.lconst 1, 1) := dk_10 (dk_at dksX1_fire_1 21 rfl rfl)
theorem dX1_fire_46 : decode cX1_fire 46 = .ok (.lreturn, 1) := dk_173 (dk_at dksX1_fire_1 22 rfl rfl)
theorem dX1_fire_47 : decode cX1_fire 47 = .ok (.lconst 1, 1) := dk_10 (dk_at dksX1_fire_1 23 rfl rfl)
theorem dX1_fire_48 : decode cX1_fire 48 = .ok (.lstore 6, 2) := dk_55 6 (dk_at dksX1_fire_2 0 rfl rfl)
theorem dX1_fire_50 : decode cX1_fire 50 = .ok (.lconst 1, 1) := dk_10 (dk_at dksX1_fire_2 2 rfl rfl)
theorem dX1_fire_51 : decode cX1_fire 51 = .ok (.lstore 8, 2) := dk_55 8 (dk_at dksX1_fire_2 3 rfl rfl)
theorem dX1_fire_53 : decode cX1_fire 53 = .ok (.iconst 2, 1) := dk_5 (dk_at dksX1_fire_2 5 rfl rfl)
theorem dX1_fire_54 : decode cX1_fire 54 = .ok (.aload_n 0, 1) := dk_42 (dk_at dksX1_fire_2 6 rfl rfl)
theorem dX1_fire_55 : decode cX1_fire 55 = .ok (.iload_n 1, 1) := dk_27 (dk_at dksX1_fire_2 7 rfl rfl)
theorem dX1_fire_56 : decode cX1_fire 56 = .ok (.invokevirtual 81, 3) := dk_182 0 81 (dk_at dksX1_fire_2 8 rfl rfl)
theorem dX1_fire_59 : decode cX1_fire 59 = .ok (.getfield 172, 3) := dk_180 0 172 (dk_at dksX1_fire_2 11 rfl rfl)
theorem dX1_fire_62 : decode cX1_fire 62 = .ok (.iload_n 2, 1) := dk_28 (dk_at dksX1_fire_2 14 rfl rfl)
theorem dX1_fire_63 : decode cX1_fire 63 = .ok (.isub, 1) := dk_100 (dk_at dksX1_fire_2 15 rfl rfl)
theorem dX1_fire_64 : decode cX1_fire 64 = .ok (.invokestatic 303, 3) := dk_184 1 47 (dk_at dksX1_fire_2 16 rfl rfl)
theorem dX1_fire_67 : decode cX1_fire 67 = .ok (.invokestatic 306, 3) := dk_184 1 50 (dk_at dksX1_fire_2 19 rfl rfl)
theorem dX1_fire_70 : decode cX1_fire 70 = .ok (.istore 10, 2) := dk_54 10 (dk_at dksX1_fire_2 22 rfl rfl)
theorem dX1_fire_72 : decode cX1_fire 72 = .ok (.iload 10, 2) := dk_21 10 (dk_at dksX1_fire_3 0 rfl rfl)
theorem dX1_fire_74 : decode cX1_fire 74 = .ok (.ifCond .le 28, 3) := dk_158 0 28 (dk_at dksX1_fire_3 2 rfl rfl)
theorem dX1_fire_77 : decode cX1_fire 77 = .ok (.lload 6, 2) := dk_22 6 (dk_at dksX1_fire_3 5 rfl rfl)
theorem dX1_fire_79 : decode cX1_fire 79 = .ok (.ldc2_w 309, 3) := dk_20 1 53 (dk_at dksX1_fire_3 7 rfl rfl)
theorem dX1_fire_82 : decode cX1_fire 82 = .ok (.lmul, 1) := dk_105 (dk_at dksX1_fire_3 10 rfl rfl)
theorem dX1_fire_83 : decode cX1_fire 83 = .ok (.lstore 6, 2) := dk_55 6 (dk_at dksX1_fire_3 11 rfl rfl)
theorem dX1_fire_85 : decode cX1_fire 85 = .ok (.lload 8, 2) := dk_22 8 (dk_at dksX1_fire_3 13 rfl rfl)
theorem dX1_fire_87 : decode cX1_fire 87 = .ok (.bipush 10, 2) := dk_16 10 (dk_at dksX1_fire_3 15 rfl rfl)
theorem dX1_fire_89 : decode cX1_fire 89 = .ok (.iload 4, 2) := dk_21 4 (dk_at dksX1_fire_3 17 rfl rfl)
theorem dX1_fire_91 : decode cX1_fire 91 = .ok (.isub, 1) := dk_100 (dk_at dksX1_fire_3 19 rfl rfl)
theorem dX1_fire_92 : decode cX1_fire 92 = .ok (.i2l, 1) := dk_133 (dk_at dksX1_fire_3 20 rfl rfl)
theorem dX1_fire_93 : decode cX1_fire 93 = .ok (.lmul, 1) := dk_105 (dk_at dksX1_fire_3 21 rfl rfl)
theorem dX1_fire_94 : decode cX1_fire 94 = .ok (.lstore 8, 2) := dk_55 8 (dk_at dksX1_fire_3 22 rfl rfl)
theorem dX1_fire_96 : decode cX1_fire 96 = .ok (.iinc 10 (-1), 3) := dk_132 10 255 (dk_at dksX1_fire_4 0 rfl rfl)
theorem dX1_fire_99 : decode cX1_fire 99 = .ok (.goto (-27), 3) := dk_167 255 229 (dk_at dksX1_fire_4 3 rfl rfl)
theorem dX1_fire_102 : decode cX1_fire 102 = .ok (.lload 6, 2) := dk_22 6 (dk_at dksX1_fire_4 6 rfl rfl)
theorem dX1_fire_104 : decode cX1_fire 104 = .ok (.lload 6, 2) := dk_22 6 (dk_at dksX1_fire_4 8 rfl rfl)
theorem dX1_fire_106 : decode cX1_fire 106 = .ok (.lload 8, 2) := dk_22 8 (dk_at dksX1_fire_4 10 rfl rfl)
theorem dX1_fire_108 : decode cX1_fire 108 = .ok (.lsub, 1) := dk_101 (dk_at dksX1_fire_4 12 rfl rfl)
theorem dX1_fire_109 : decode cX1_fire 109 = .ok (.invokestatic 311, 3) := dk_184 1 55 (dk_at dksX1_fire_4 13 rfl rfl)
theorem dX1_fire_112 : decode cX1_fire 112 = .ok (.lstore 10, 2) := dk_55 10 (dk_at dksX1_fire_4 16 rfl rfl)
theorem dX1_fire_114 : decode cX1_fire 114 = .ok (.iload 5, 2) := dk_21 5 (dk_at dksX1_fire_4 18 rfl rfl)
theorem dX1_fire_116 : decode cX1_fire 116 = .ok (.ifCond .ne 14, 3) := dk_154 0 14 (dk_at dksX1_fire_4 20 rfl rfl)
theorem dX1_fire_119 : decode cX1_fire 119 = .ok (.lload 6, 2) := dk_22 6 (dk_at dksX1_fire_5 0 rfl rfl)
theorem dX1_fire_121 : decode cX1_fire 121 = .ok (.lload 8, 2) := dk_22 8 (dk_at dksX1_fire_5 2 rfl rfl)
theorem dX1_fire_123 : decode cX1_fire 123 = .ok (.lsub, 1) := dk_101 (dk_at dksX1_fire_5 4 rfl rfl)
theorem dX1_fire_124 : decode cX1_fire 124 = .ok (.lload 10, 2) := dk_22 10 (dk_at dksX1_fire_5 5 rfl rfl)
theorem dX1_fire_126 : decode cX1_fire 126 = .ok (.ldiv, 1) := dk_109 (dk_at dksX1_fire_5 7 rfl rfl)
theorem dX1_fire_127 : decode cX1_fire 127 = .ok (.goto 8, 3) := dk_167 0 8 (dk_at dksX1_fire_5 8 rfl rfl)
theorem dX1_fire_130 : decode cX1_fire 130 = .ok (.lload 6, 2) := dk_22 6 (dk_at dksX1_fire_5 11 rfl rfl)
theorem dX1_fire_132 : decode cX1_fire 132 = .ok (.lload 10, 2) := dk_22 10 (dk_at dksX1_fire_5 13 rfl rfl)
theorem dX1_fire_134 : decode cX1_fire 134 = .ok (.ldiv, 1) := dk_109 (dk_at dksX1_fire_5 15 rfl rfl)
theorem dX1_fire_135 : decode cX1_fire 135 = .ok (.lreturn, 1) := dk_173 (dk_at dksX1_fire_5 16 rfl rfl)
def dkwX1_common_1 : List UInt8 := [22, 8, 55, 6, 167, 255, 234, 22, 4, 173]
abbrev dktX1_common_1 : List UInt8 := dkwX1_common_1 ++ []
def dkwX1_common_0 : List UInt8 := [30, 55, 4, 32, 55, 6, 22, 6, 9, 148, 153, 0, 21, 22, 4, 22, 6, 113, 55, 8, 22, 6, 55, 4]
abbrev dktX1_common_0 : List UInt8 := dkwX1_common_0 ++ dktX1_common_1
theorem dksX1_common_0 : cX1_common.data.toList.drop 0 = dktX1_common_0 := by decide +kernel
theorem dksX1_common_1 : cX1_common.data.toList.drop 24 = dktX1_common_1 := dk_seg dksX1_common_0 24 rfl rfl
theorem dX1_common_0 : decode cX1_common 0 = .ok (.lload_n 0, 1) := dk_30 (dk_at dksX1_common_0 0 rfl rfl)
theorem dX1_common_1 : decode cX1_common 1 = .ok (.lstore 4, 2) := dk_55 4 (dk_at dksX1_common_0 1 rfl rfl)
theorem dX1_common_3 : decode cX1_common 3 = .ok (.lload_n 2, 1) := dk_32 (dk_at dksX1_common_0 3 rfl rfl)
theorem dX1_common_4 : decode cX1_common 4 = .ok (.lstore 6, 2) := dk_55 6 (dk_at dksX1_common_0 4 rfl rfl)
theorem dX1_common_6 : decode cX1_common 6 = .ok (.lload 6, 2) := dk_22 6 (dk_at dksX1_common_0 6 rfl rfl)
theorem dX1_common_8 : decode cX1_common 8 = .ok (.lconst 0, 1) := dk_9 (dk_at dksX1_common_0 8 rfl rfl)
theorem dX1_common_9 : decode cX1_common 9 = .ok (.lcmp, 1) := dk_148 (dk_at dksX1_common_0 9 rfl rfl)
theorem dX1_common_10 : decode cX1_common 10 = .ok (.ifCond .eq 21, 3) := dk_153 0 21 (dk_at dksX1_common_0 10 rfl rfl)
theorem dX1_common_13 : decode cX1_common 13 = .ok (.lload 4, 2) := dk_22 4 (dk_at dksX1_common_0 13 rfl rfl)
theorem dX1_common_15 : decode cX1_common 15 = .ok (.lload 6, 2) := dk_22 6 (dk_at dksX1_common_0 15 rfl rfl)
theorem dX1_common_17 : decode cX1_common 17 = .ok (.lrem, 1) := dk_113 (dk_at dksX1_common_0 17 rfl rfl)
theorem dX1_common_18 : decode cX1_common 18 = .ok (.lstore 8, 2) := dk_55 8 (dk_at dksX1_common_0 18 rfl rfl)
theorem dX1_common_20 : decode cX1_common 20 = .ok (.lload 6, 2) := dk_22 6 (dk_at dksX1_common_0 20 rfl rfl)
theorem dX1_common_22 : decode cX1_common 22 = .ok (.lstore 4, 2) := dk_55 4 (dk_at dksX1_common_0 22 rfl rfl)
theorem dX1_common_24 : decode cX1_common 24 = .ok (.lload 8, 2) := dk_22 8 (dk_at dksX1_common_1 0 rfl rfl)
theorem dX1_common_26 : decode cX1_common 26 = .ok (.lstore 6, 2) := dk_55 6 (dk_at dksX1_common_1 2 rfl rfl)
theorem dX1_common_28 : decode cX1_common 28 = .ok (.goto (-22), 3) := dk_167 255 234 (dk_at dksX1_common_1 4 rfl rfl)
theorem dX1_common_31 : decode cX1_common 31 = .ok (.lload 4, 2) := dk_22 4 (dk_at dksX1_common_1 7 rfl rfl)
theorem dX1_common_33 : decode cX1_common 33 = .ok (.lreturn, 1) := dk_173 (dk_at dksX1_common_1 9 rfl rfl)
def dkwX10_init_4 : List UInt8 := [21, 4, 21, 5, 182, 0, 37, 79, 132, 5, 1, 167, 255, 212, 132, 4, 1, 167, 255, 186, 177]
abbrev dktX10_init_4 : List UInt8 := dkwX10_init_4 ++ []
def dkwX10_init_3 : List UInt8 := [6, 21, 4, 104, 21, 5, 96, 42, 21, 4, 21, 5, 182, 0, 33, 153, 0, 7, 3, 167, 0, 11, 43]
abbrev dktX10_init_3 : List UInt8 := dkwX10_init_3 ++ dktX10_init_4
def dkwX10_init_2 : List UInt8 := [162, 0, 67, 42, 180, 0, 19, 21, 4, 2, 79, 4, 54, 5, 21, 5, 5, 163, 0, 44, 42, 180, 0, 15]
abbrev dktX10_init_2 : List UInt8 := dkwX10_init_2 ++ dktX10_init_3
def dkwX10_init_1 : List UInt8 := [181, 0, 19, 42, 28, 181, 0, 22, 42, 29, 181, 0, 26, 3, 54, 4, 21, 4, 43, 182, 0, 29]
abbrev dktX10_init_1 : List UInt8 := dkwX10_init_1 ++ dktX10_init_2
def dkwX10_init_0 : List UInt8 := [42, 43, 181, 0, 3, 42, 183, 0, 9, 42, 16, 18, 188, 10, 181, 0, 15, 42, 16, 6, 188, 10]
abbrev dktX10_init_0 : List UInt8 := dkwX10_init_0 ++ dktX10_init_1
theorem dksX10_init_0 : cX10_init.data.toList.drop 0 = dktX10_init_0 := by decide +kernel
theorem dksX10_init_1 : cX10_init.data.toList.drop 22 = dktX10_init_1 := dk_seg dksX10_init_0 22 rfl rfl
theorem dksX10_init_2 : cX10_init.data.toList.drop 44 = dktX10_init_2 := dk_seg dksX10_init_1 22 rfl rfl
theorem dksX10_init_3 : cX10_init.data.toList.drop 68 = dktX10_init_3 := dk_seg dksX10_init_2 24 rfl rfl
theorem dksX10_init_4 : cX10_init.data.toList.drop 91 = dktX10_init_4 := dk_seg dksX10_init_3 23 rfl rfl
theorem dX10_init_0 : decode cX10_init 0 = .ok (.aload_n 0, 1) := dk_42 (dk_at dksX10_init_0 0 rfl rfl)
theorem dX10_init_1 : decode cX10_init 1 = .ok (.aload_n 1, 1) := dk_43 (dk_at dksX10_init_0 1 rfl rfl)
theorem dX10_init_2 : decode cX10_init 2 = .ok (.putfield 3, 3) := dk_181 0 3 (dk_at dksX10_init_0 2 rfl rfl)
theorem dX10_init_5 : decode cX10_init 5 = .ok (.aload_n 0, 1) := dk_42 (dk_at dksX10_init_0 5 rfl rfl)
theorem dX10_init_6 : decode cX10_init 6 = .ok (.invokespecial 9, 3) := dk_183 0 9 (dk_at dksX10_init_0 6 rfl rfl)
theorem dX10_init_9 : decode cX10_init 9 = .ok (.aload_n 0, 1) := dk_42 (dk_at dksX10_init_0 9 rfl rfl)
theorem dX10_init_10 : decode cX10_init 10 = .ok (.bipush 18, 2) := dk_16 18 (dk_at dksX10_init_0 10 rfl rfl)
theorem dX10_init_12 : decode cX10_init 12 = .ok (.newarray .int, 2) := dk_188_10 (dk_at dksX10_init_0 12 rfl rfl)
theorem dX10_init_14 : decode cX10_init 14 = .ok (.putfield 15, 3) := dk_181 0 15 (dk_at dksX10_init_0 14 rfl rfl)
theorem dX10_init_17 : decode cX10_init 17 = .ok (.aload_n 0, 1) := dk_42 (dk_at dksX10_init_0 17 rfl rfl)
theorem dX10_init_18 : decode cX10_init 18 = .ok (.bipush 6, 2) := dk_16 6 (dk_at dksX10_init_0 18 rfl rfl)
theorem dX10_init_20 : decode cX10_init 20 = .ok (.newarray .int, 2) := dk_188_10 (dk_at dksX10_init_0 20 rfl rfl)
theorem dX10_init_22 : decode cX10_init 22 = .ok (.putfield 19, 3) := dk_181 0 19 (dk_at dksX10_init_1 0 rfl rfl)
theorem dX10_init_25 : decode cX10_init 25 = .ok (.aload_n 0, 1) := dk_42 (dk_at dksX10_init_1 3 rfl rfl)
theorem dX10_init_26 : decode cX10_init 26 = .ok (.iload_n 2, 1) := dk_28 (dk_at dksX10_init_1 4 rfl rfl)
theorem dX10_init_27 : decode cX10_init 27 = .ok (.putfield 22, 3) := dk_181 0 22 (dk_at dksX10_init_1 5 rfl rfl)
theorem dX10_init_30 : decode cX10_init 30 = .ok (.aload_n 0, 1) := dk_42 (dk_at dksX10_init_1 8 rfl rfl)
theorem dX10_init_31 : decode cX10_init 31 = .ok (.iload_n 3, 1) := dk_29 (dk_at dksX10_init_1 9 rfl rfl)
theorem dX10_init_32 : decode cX10_init 32 = .ok (.putfield 26, 3) := dk_181 0 26 (dk_at dksX10_init_1 10 rfl rfl)
theorem dX10_init_35 : decode cX10_init 35 = .ok (.iconst 0, 1) := dk_3 (dk_at dksX10_init_1 13 rfl rfl)
theorem dX10_init_36 : decode cX10_init 36 = .ok (.istore 4, 2) := dk_54 4 (dk_at dksX10_init_1 14 rfl rfl)
theorem dX10_init_38 : decode cX10_init 38 = .ok (.iload 4, 2) := dk_21 4 (dk_at dksX10_init_1 16 rfl rfl)
theorem dX10_init_40 : decode cX10_init 40 = .ok (.aload_n 1, 1) := dk_43 (dk_at dksX10_init_1 18 rfl rfl)
theorem dX10_init_41 : decode cX10_init 41 = .ok (.invokevirtual 29, 3) := dk_182 0 29 (dk_at dksX10_init_1 19 rfl rfl)
theorem dX10_init_44 : decode cX10_init 44 = .ok (.if_icmp .ge 67, 3) := dk_162 0 67 (dk_at dksX10_init_2 0 rfl rfl)
theorem dX10_init_47 : decode cX10_init 47 = .ok (.aload_n 0, 1) := dk_42 (dk_at dksX10_init_2 3 rfl rfl)
theorem dX10_init_48 : decode cX10_init 48 = .ok (.getfield 19, 3) := dk_180 0 19 (dk_at dksX10_init_2 4 rfl rfl)
theorem dX10_init_51 : decode cX10_init 51 = .ok (.iload 4, 2) := dk_21 4 (dk_at dksX10_init_2 7 rfl rfl)
theorem dX10_init_53 : decode cX10_init 53 = .ok (.iconst (-1), 1) := dk_2 (dk_at dksX10_init_2 9 rfl rfl)
theorem dX10_init_54 : decode cX10_init 54 = .ok (.iastore, 1) := dk_79 (dk_at dksX10_init_2 10 rfl rfl)
theorem dX10_init_55 : decode cX10_init 55 = .ok (.iconst 1, 1) := dk_4 (dk_at dksX10_init_2 11 rfl rfl)
theorem dX10_init_56 : decode cX10_init 56 = .ok (.istore 5, 2) := dk_54 5 (dk_at dksX10_init_2 12 rfl rfl)
theorem dX10_init_58 : decode cX10_init 58 = .ok (.iload 5, 2) := dk_21 5 (dk_at dksX10_init_2 14 rfl rfl)
theorem dX10_init_60 : decode cX10_init 60 = .ok (.iconst 2, 1) := dk_5 (dk_at dksX10_init_2 16 rfl rfl)
theorem dX10_init_61 : decode cX10_init 61 = .ok (.if_icmp .gt 44, 3) := dk_163 0 44 (dk_at dksX10_init_2 17 rfl rfl)
theorem dX10_init_64 : decode cX10_init 64 = .ok (.aload_n 0, 1) := dk_42 (dk_at dksX10_init_2 20 rfl rfl)
theorem dX10_init_65 : decode cX10_init 65 = .ok (.getfield 15, 3) := dk_180 0 15 (dk_at dksX10_init_2 21 rfl rfl)
theorem dX10_init_68 : decode cX10_init 68 = .ok (.iconst 3, 1) := dk_6 (dk_at dksX10_init_3 0 rfl rfl)
theorem dX10_init_69 : decode cX10_init 69 = .ok (.iload 4, 2) := dk_21 4 (dk_at dksX10_init_3 1 rfl rfl)
theorem dX10_init_71 : decode cX10_init 71 = .ok (.imul, 1) := dk_104 (dk_at dksX10_init_3 3 rfl rfl)
theorem dX10_init_72 : decode cX10_init 72 = .ok (.iload 5, 2) := dk_21 5 (dk_at dksX10_init_3 4 rfl rfl)
theorem dX10_init_74 : decode cX10_init 74 = .ok (.iadd, 1) := dk_96 (dk_at dksX10_init_3 6 rfl rfl)
theorem dX10_init_75 : decode cX10_init 75 = .ok (.aload_n 0, 1) := dk_42 (dk_at dksX10_init_3 7 rfl rfl)
theorem dX10_init_76 : decode cX10_init 76 = .ok (.iload 4, 2) := dk_21 4 (dk_at dksX10_init_3 8 rfl rfl)
theorem dX10_init_78 : decode cX10_init 78 = .ok (.iload 5, 2) := dk_21 5 (dk_at dksX10_init_3 10 rfl rfl)
theorem dX10_init_80 : decode cX10_init 80 = .ok (.invokevirtual 33, 3) := dk_182 0 33 (dk_at dksX10_init_3 12 rfl rfl)
theorem dX10_init_83 : decode cX10_init 83 = .ok (.ifCond .eq 7, 3) := dk_153 0 7 (dk_at dksX10_init_3 15 rfl rfl)
theorem dX10_init_86 : decode cX10_init 86 = .ok (.iconst 0, 1) := dk_3 (dk_at dksX10_init_3 18 rfl rfl)
theorem dX10_init_87 : decode cX10_init 87 = .ok (.goto 11, 3) := dk_167 0 11 (dk_at dksX10_init_3 19 rfl rfl)
theorem dX10_init_90 : decode cX10_init 90 = .ok (.aload_n 1, 1) := dk_43 (dk_at dksX10_init_3 22 rfl rfl)
theorem dX10_init_91 : decode cX10_init 91 = .ok (.iload 4, 2) := dk_21 4 (dk_at dksX10_init_4 0 rfl rfl)
theorem dX10_init_93 : decode cX10_init 93 = .ok (.iload 5, 2) := dk_21 5 (dk_at dksX10_init_4 2 rfl rfl)
theorem dX10_init_95 : decode cX10_init 95 = .ok (.invokevirtual 37, 3) := dk_182 0 37 (dk_at dksX10_init_4 4 rfl rfl)
theorem dX10_init_98 : decode cX10_init 98 = .ok (.iastore, 1) := dk_79 (dk_at dksX10_init_4 7 rfl rfl)
theorem dX10_init_99 : decode cX10_init 99 = .ok (.iinc 5 1, 3) := dk_132 5 1 (dk_at dksX10_init_4 8 rfl rfl)
theorem dX10_init_102 : decode cX10_init 102 = .ok (.goto (-44), 3) := dk_167 255 212 (dk_at dksX10_init_4 11 rfl rfl)
theorem dX10_init_105 : decode cX10_init 105 = .ok (.iinc 4 1, 3) := dk_132 4 1 (dk_at dksX10_init_4 14 rfl rfl)
theorem dX10_init_108 : decode cX10_init 108 = .ok (.goto (-70), 3) := dk_167 255 186 (dk_at dksX10_init_4 17 rfl rfl)
theorem dX10_init_111 : decode cX10_init 111 = .ok (.return_, 1) := dk_177 (dk_at dksX10_init_4 20 rfl rfl)
def dkwX10_isNeeded_1 : List UInt8 := [4, 172, 132, 3, 1, 167, 255, 232, 3, 172]
abbrev dktX10_isNeeded_1 : List UInt8 := dkwX10_isNeeded_1 ++ []
def dkwX10_isNeeded_0 : List UInt8 := [42, 180, 0, 22, 62, 29, 42, 180, 0, 26, 163, 0, 22, 42, 27, 29, 182, 0, 54, 28, 126, 153, 0, 5]
abbrev dktX10_isNeeded_0 : List UInt8 := dkwX10_isNeeded_0 ++ dktX10_isNeeded_1
theorem dksX10_isNeeded_0 : cX10_isNeeded.data.toList.drop 0 = dktX10_isNeeded_0 := by decide +kernel
theorem dksX10_isNeeded_1 : cX10_isNeeded.data.toList.drop 24 = dktX10_isNeeded_1 := dk_seg dksX10_isNeeded_0 24 rfl rfl
theorem dX10_isNeeded_0 : decode cX10_isNeeded 0 = .ok (.aload_n 0, 1) := dk_42 (dk_at dksX10_isNeeded_0 0 rfl rfl)
theorem dX10_isNeeded_1 : decode cX10_isNeeded 1 = .ok (.getfield 22, 3) := dk_180 0 22 (dk_at dksX10_isNeeded_0 1 rfl rfl)
theorem dX10_isNeeded_4 : decode cX10_isNeeded 4 = .ok (.istore_n 3, 1) := dk_62 (dk_at dksX10_isNeeded_0 4 rfl rfl)
theorem dX10_isNeeded_5 : decode cX10_isNeeded 5 = .ok (.iload_n 3, 1) := dk_29 (dk_at dksX10_isNeeded_0 5 rfl rfl)
theorem dX10_isNeeded_6 : decode cX10_isNeeded 6 = .ok (.aload_n 0, 1) := dk_42 (dk_at dksX10_isNeeded_0 6 rfl rfl)
theorem dX10_isNeeded_7 : decode cX10_isNeeded 7 = .ok (.getfield 26, 3) := dk_180 0 26 (dk_at dksX10_isNeeded_0 7 rfl rfl)
theorem dX10_isNeeded_10 : decode cX10_isNeeded 10 = .ok (.if_icmp .gt 22, 3) := dk_163 0 22 (dk_at dksX10_isNeeded_0 10 rfl rfl)
theorem dX10_isNeeded_13 : decode cX10_isNeeded 13 = .ok (.aload_n 0, 1) := dk_42 (dk_at dksX10_isNeeded_0 13 rfl rfl)
theorem dX10_isNeeded_14 : decode cX10_isNeeded 14 = .ok (.iload_n 1, 1) := dk_27 (dk_at dksX10_isNeeded_0 14 rfl rfl)
theorem dX10_isNeeded_15 : decode cX10_isNeeded 15 = .ok (.iload_n 3, 1) := dk_29 (dk_at dksX10_isNeeded_0 15 rfl rfl)
theorem dX10_isNeeded_16 : decode cX10_isNeeded 16 = .ok (.invokevirtual 54, 3) := dk_182 0 54 (dk_at dksX10_isNeeded_0 16 rfl rfl)
theorem dX10_isNeeded_19 : decode cX10_isNeeded 19 = .ok (.iload_n 2, 1) := dk_28 (dk_at dksX10_isNeeded_0 19 rfl rfl)
theorem dX10_isNeeded_20 : decode cX10_isNeeded 20 = .ok (.iand, 1) := dk_126 (dk_at dksX10_isNeeded_0 20 rfl rfl)
theorem dX10_isNeeded_21 : decode cX10_isNeeded 21 = .ok (.ifCond .eq 5, 3) := dk_153 0 5 (dk_at dksX10_isNeeded_0 21 rfl rfl)
theorem dX10_isNeeded_24 : decode cX10_isNeeded 24 = .ok (.iconst 1, 1) := dk_4 (dk_at dksX10_isNeeded_1 0 rfl rfl)
theorem dX10_isNeeded_25 : decode cX10_isNeeded 25 = .ok (.ireturn, 1) := dk_172 (dk_at dksX10_isNeeded_1 1 rfl rfl)
theorem dX10_isNeeded_26 : decode cX10_isNeeded 26 = .ok (.iinc 3 1, 3) := dk_132 3 1 (dk_at dksX10_isNeeded_1 2 rfl rfl)
theorem dX10_isNeeded_29 : decode cX10_isNeeded 29 = .ok (.goto (-24), 3) := dk_167 255 232 (dk_at dksX10_isNeeded_1 5 rfl rfl)
theorem dX10_isNeeded_32 : decode cX10_isNeeded 32 = .ok (.iconst 0, 1) := dk_3 (dk_at dksX10_isNeeded_1 8 rfl rfl)
theorem dX10_isNeeded_33 : decode cX10_isNeeded 33 = .ok (.ireturn, 1) := dk_172 (dk_at dksX10_isNeeded_1 9 rfl rfl)
def dkwX10_law_1 : List UInt8 := [172]
abbrev dktX10_law_1 : List UInt8 := dkwX10_law_1 ++ []
def dkwX10_law_0 : List UInt8 := [42, 180, 0, 3, 180, 0, 41, 42, 180, 0, 3, 180, 0, 45, 16, 24, 27, 104, 28, 96, 46, 182, 0, 48]
abbrev dktX10_law_0 : List UInt8 := dkwX10_law_0 ++ dktX10_law_1
theorem dksX10_law_0 : cX10_law.data.toList.drop 0 = dktX10_law_0 := by decide +kernel
theorem dksX10_law_1 : cX10_law.data.toList.drop 24 = dktX10_law_1 := dk_seg dksX10_law_0 24 rfl rfl
theorem dX10_law_0 : decode cX10_law 0 = .ok (.aload_n 0, 1) := dk_42 (dk_at dksX10_law_0 0 rfl rfl)
theorem dX10_law_1 : decode cX10_law 1 = .ok (.getfield 3, 3) := dk_180 0 3 (dk_at dksX10_law_0 1 rfl rfl)
theorem dX10_law_4 : decode cX10_law 4 = .ok (.getfield 41, 3) := dk_180 0 41 (dk_at dksX10_law_0 4 rfl rfl)
theorem dX10_law_7 : decode cX10_law 7 = .ok (.aload_n 0, 1) := dk_42 (dk_at dksX10_law_0 7 rfl rfl)
theorem dX10_law_8 : decode cX10_law 8 = .ok (.getfield 3, 3) := dk_180 0 3 (dk_at dksX10_law_0 8 rfl rfl)
theorem dX10_law_11 : decode cX10_law 11 = .ok (.getfield 45, 3) := dk_180 0 45 (dk_at dksX10_law_0 11 rfl rfl)
theorem dX10_law_14 : decode cX10_law 14 = .ok (.bipush 24, 2) := dk_16 24 (dk_at dksX10_law_0 14 rfl rfl)
theorem dX10_law_16 : decode cX10_law 16 = .ok (.iload_n 1, 1) := dk_27 (dk_at dksX10_law_0 16 rfl rfl)
theorem dX10_law_17 : decode cX10_law 17 = .ok (.imul, 1) := dk_104 (dk_at dksX10_law_0 17 rfl rfl)
theorem dX10_law_18 : decode cX10_law 18 = .ok (.iload_n 2, 1) := dk_28 (dk_at dksX10_law_0 18 rfl rfl)
theorem dX10_law_19 : decode cX10_law 19 = .ok (.iadd, 1) := dk_96 (dk_at dksX10_law_0 19 rfl rfl)
theorem dX10_law_20 : decode cX10_law 20 = .ok (.iaload, 1) := dk_46 (dk_at dksX10_law_0 20 rfl rfl)
theorem dX10_law_21 : decode cX10_law 21 = .ok (.invokevirtual 48, 3) := dk_182 0 48 (dk_at dksX10_law_0 21 rfl rfl)
theorem dX10_law_24 : decode cX10_law 24 = .ok (.ireturn, 1) := dk_172 (dk_at dksX10_law_1 0 rfl rfl)
def dkwX10_go_8 : List UInt8 := [132, 2, 1, 167, 255, 117, 42, 89, 180, 0, 67, 4, 100, 181, 0, 67, 3, 172]
abbrev dktX10_go_8 : List UInt8 := dkwX10_go_8 ++ []
def dkwX10_go_7 : List UInt8 := [6, 28, 104, 29, 96, 92, 46, 4, 96, 79, 42, 180, 0, 19, 27, 2, 79, 132, 3, 1, 167, 255, 136]
abbrev dktX10_go_7 : List UInt8 := dkwX10_go_7 ++ dktX10_go_8
def dkwX10_go_6 : List UInt8 := [27, 16, 10, 28, 104, 29, 96, 79, 42, 27, 4, 96, 182, 0, 63, 153, 0, 5, 4, 172, 42, 180, 0, 15]
abbrev dktX10_go_6 : List UInt8 := dkwX10_go_6 ++ dktX10_go_7
def dkwX10_go_5 : List UInt8 := [154, 0, 6, 167, 0, 62, 42, 180, 0, 15, 6, 28, 104, 29, 96, 92, 46, 4, 100, 79, 42, 180, 0, 19]
abbrev dktX10_go_5 : List UInt8 := dkwX10_go_5 ++ dktX10_go_6
def dkwX10_go_4 : List UInt8 := [182, 0, 57, 29, 126, 154, 0, 83, 42, 27, 42, 180, 0, 3, 27, 182, 0, 57, 29, 128, 182, 0, 60]
abbrev dktX10_go_4 : List UInt8 := dkwX10_go_4 ++ dktX10_go_5
def dkwX10_go_3 : List UInt8 := [159, 0, 110, 42, 180, 0, 15, 6, 28, 104, 29, 96, 46, 4, 161, 0, 96, 42, 180, 0, 3, 27]
abbrev dktX10_go_3 : List UInt8 := dkwX10_go_3 ++ dktX10_go_4
def dkwX10_go_2 : List UInt8 := [3, 61, 28, 42, 180, 0, 3, 182, 0, 29, 162, 0, 134, 4, 62, 29, 5, 163, 0, 121, 28, 27]
abbrev dktX10_go_2 : List UInt8 := dkwX10_go_2 ++ dktX10_go_3
def dkwX10_go_1 : List UInt8 := [182, 0, 60, 153, 0, 11, 42, 27, 4, 96, 182, 0, 63, 172, 42, 89, 180, 0, 67, 4, 96, 181, 0, 67]
abbrev dktX10_go_1 : List UInt8 := dkwX10_go_1 ++ dktX10_go_2
def dkwX10_go_0 : List UInt8 := [27, 42, 180, 0, 3, 182, 0, 29, 160, 0, 5, 4, 172, 42, 27, 42, 180, 0, 3, 27, 182, 0, 57]
abbrev dktX10_go_0 : List UInt8 := dkwX10_go_0 ++ dktX10_go_1
theorem dksX10_go_0 : cX10_go.data.toList.drop 0 = dktX10_go_0 := by decide +kernel
theorem dksX10_go_1 : cX10_go.data.toList.drop 23 = dktX10_go_1 := dk_seg dksX10_go_0 23 rfl rfl
theorem dksX10_go_2 : cX10_go.data.toList.drop 47 = dktX10_go_2 := dk_seg dksX10_go_1 24 rfl rfl
theorem dksX10_go_3 : cX10_go.data.toList.drop 69 = dktX10_go_3 := dk_seg dksX10_go_2 22 rfl rfl
theorem dksX10_go_4 : cX10_go.data.toList.drop 91 = dktX10_go_4 := dk_seg dksX10_go_3 22 rfl rfl
theorem dksX10_go_5 : cX10_go.data.toList.drop 114 = dktX10_go_5 := dk_seg dksX10_go_4 23 rfl rfl
theorem dksX10_go_6 : cX10_go.data.toList.drop 138 = dktX10_go_6 := dk_seg dksX10_go_5 24 rfl rfl
theorem dksX10_go_7 : cX10_go.data.toList.drop 162 = dktX10_go_7 := dk_seg dksX10_go_6 24 rfl rfl
theorem dksX10_go_8 : cX10_go.data.toList.drop 185 = dktX10_go_8 := dk_seg dksX10_go_7 23 rfl rfl
theorem dX10_go_0 : decode cX10_go 0 = .ok (.iload_n 1, 1) := dk_27 (dk_at dksX10_go_0 0 rfl rfl)
theorem dX10_go_1 : decode cX10_go 1 = .ok (.aload_n 0, 1) := dk_42 (dk_at dksX10_go_0 1 rfl rfl)
theorem dX10_go_2 : decode cX10_go 2 = .ok (.getfield 3, 3) := dk_180 0 3 (dk_at dksX10_go_0 2 rfl rfl)
theorem dX10_go_5 : decode cX10_go 5 = .ok (.invokevirtual 29, 3) := dk_182 0 29 (dk_at dksX10_go_0 5 rfl rfl)
theorem dX10_go_8 : decode cX10_go 8 = .ok (.if_icmp .ne 5, 3) := dk_160 0 5 (dk_at dksX10_go_0 8 rfl rfl)
theorem dX10_go_11 : decode cX10_go 11 = .ok (.iconst 1, 1) := dk_4 (dk_at dksX10_go_0 11 rfl rfl)
theorem dX10_go_12 : decode cX10_go 12 = .ok (.ireturn, 1) := dk_172 (dk_at dksX10_go_0 12 rfl rfl)
theorem dX10_go_13 : decode cX10_go 13 = .ok (.aload_n 0, 1) := dk_42 (dk_at dksX10_go_0 13 rfl rfl)
theorem dX10_go_14 : decode cX10_go 14 = .ok (.iload_n 1, 1) := dk_27 (dk_at dksX10_go_0 14 rfl rfl)
theorem dX10_go_15 : decode cX10_go 15 = .ok (.aload_n 0, 1) := dk_42 (dk_at dksX10_go_0 15 rfl rfl)
theorem dX10_go_16 : decode cX10_go 16 = .ok (.getfield 3, 3) := dk_180 0 3 (dk_at dksX10_go_0 16 rfl rfl)
theorem dX10_go_19 : decode cX10_go 19 = .ok (.iload_n 1, 1) := dk_27 (dk_at dksX10_go_0 19 rfl rfl)
theorem dX10_go_20 : decode cX10_go 20 = .ok (.invokevirtual 57, 3) := dk_182 0 57 (dk_at dksX10_go_0 20 rfl rfl)
theorem dX10_go_23 : decode cX10_go 23 = .ok (.invokevirtual 60, 3) := dk_182 0 60 (dk_at dksX10_go_1 0 rfl rfl)
theorem dX10_go_26 : decode cX10_go 26 = .ok (.ifCond .eq 11, 3) := dk_153 0 11 (dk_at dksX10_go_1 3 rfl rfl)
theorem dX10_go_29 : decode cX10_go 29 = .ok (.aload_n 0, 1) := dk_42 (dk_at dksX10_go_1 6 rfl rfl)
theorem dX10_go_30 : decode cX10_go 30 = .ok (.iload_n 1, 1) := dk_27 (dk_at dksX10_go_1 7 rfl rfl)
theorem dX10_go_31 : decode cX10_go 31 = .ok (.iconst 1, 1) := dk_4 (dk_at dksX10_go_1 8 rfl rfl)
theorem dX10_go_32 : decode cX10_go 32 = .ok (.iadd, 1) := dk_96 (dk_at dksX10_go_1 9 rfl rfl)
theorem dX10_go_33 : decode cX10_go 33 = .ok (.invokevirtual 63, 3) := dk_182 0 63 (dk_at dksX10_go_1 10 rfl rfl)
theorem dX10_go_36 : decode cX10_go 36 = .ok (.ireturn, 1) := dk_172 (dk_at dksX10_go_1 13 rfl rfl)
theorem dX10_go_37 : decode cX10_go 37 = .ok (.aload_n 0, 1) := dk_42 (dk_at dksX10_go_1 14 rfl rfl)
theorem dX10_go_38 : decode cX10_go 38 = .ok (.dup, 1) := dk_89 (dk_at dksX10_go_1 15 rfl rfl)
theorem dX10_go_39 : decode cX10_go 39 = .ok (.getfield 67, 3) := dk_180 0 67 (dk_at dksX10_go_1 16 rfl rfl)
theorem dX10_go_42 : decode cX10_go 42 = .ok (.iconst 1, 1) := dk_4 (dk_at dksX10_go_1 19 rfl rfl)
theorem dX10_go_43 : decode cX10_go 43 = .ok (.iadd, 1) := dk_96 (dk_at dksX10_go_1 20 rfl rfl)
theorem dX10_go_44 : decode cX10_go 44 = .ok (.putfield 67, 3) := dk_181 0 67 (dk_at dksX10_go_1 21 rfl rfl)
theorem dX10_go_47 : decode cX10_go 47 = .ok (.iconst 0, 1) := dk_3 (dk_at dksX10_go_2 0 rfl rfl)
theorem dX10_go_48 : decode cX10_go 48 = .ok (.istore_n 2, 1) := dk_61 (dk_at dksX10_go_2 1 rfl rfl)
theorem dX10_go_49 : decode cX10_go 49 = .ok (.iload_n 2, 1) := dk_28 (dk_at dksX10_go_2 2 rfl rfl)
theorem dX10_go_50 : decode cX10_go 50 = .ok (.aload_n 0, 1) := dk_42 (dk_at dksX10_go_2 3 rfl rfl)
theorem dX10_go_51 : decode cX10_go 51 = .ok (.getfield 3, 3) := dk_180 0 3 (dk_at dksX10_go_2 4 rfl rfl)
theorem dX10_go_54 : decode cX10_go 54 = .ok (.invokevirtual 29, 3) := dk_182 0 29 (dk_at dksX10_go_2 7 rfl rfl)
theorem dX10_go_57 : decode cX10_go 57 = .ok (.if_icmp .ge 134, 3) := dk_162 0 134 (dk_at dksX10_go_2 10 rfl rfl)
theorem dX10_go_60 : decode cX10_go 60 = .ok (.iconst 1, 1) := dk_4 (dk_at dksX10_go_2 13 rfl rfl)
theorem dX10_go_61 : decode cX10_go 61 = .ok (.istore_n 3, 1) := dk_62 (dk_at dksX10_go_2 14 rfl rfl)
theorem dX10_go_62 : decode cX10_go 62 = .ok (.iload_n 3, 1) := dk_29 (dk_at dksX10_go_2 15 rfl rfl)
theorem dX10_go_63 : decode cX10_go 63 = .ok (.iconst 2, 1) := dk_5 (dk_at dksX10_go_2 16 rfl rfl)
theorem dX10_go_64 : decode cX10_go 64 = .ok (.if_icmp .gt 121, 3) := dk_163 0 121 (dk_at dksX10_go_2 17 rfl rfl)
theorem dX10_go_67 : decode cX10_go 67 = .ok (.iload_n 2, 1) := dk_28 (dk_at dksX10_go_2 20 rfl rfl)
theorem dX10_go_68 : decode cX10_go 68 = .ok (.iload_n 1, 1) := dk_27 (dk_at dksX10_go_2 21 rfl rfl)
theorem dX10_go_69 : decode cX10_go 69 = .ok (.if_icmp .eq 110, 3) := dk_159 0 110 (dk_at dksX10_go_3 0 rfl rfl)
theorem dX10_go_72 : decode cX10_go 72 = .ok (.aload_n 0, 1) := dk_42 (dk_at dksX10_go_3 3 rfl rfl)
theorem dX10_go_73 : decode cX10_go 73 = .ok (.getfield 15, 3) := dk_180 0 15 (dk_at dksX10_go_3 4 rfl rfl)
theorem dX10_go_76 : decode cX10_go 76 = .ok (.iconst 3, 1) := dk_6 (dk_at dksX10_go_3 7 rfl rfl)
theorem dX10_go_77 : decode cX10_go 77 = .ok (.iload_n 2, 1) := dk_28 (dk_at dksX10_go_3 8 rfl rfl)
theorem dX10_go_78 : decode cX10_go 78 = .ok (.imul, 1) := dk_104 (dk_at dksX10_go_3 9 rfl rfl)
theorem dX10_go_79 : decode cX10_go 79 = .ok (.iload_n 3, 1) := dk_29 (dk_at dksX10_go_3 10 rfl rfl)
theorem dX10_go_80 : decode cX10_go 80 = .ok (.iadd, 1) := dk_96 (dk_at dksX10_go_3 11 rfl rfl)
theorem dX10_go_81 : decode cX10_go 81 = .ok (.iaload, 1) := dk_46 (dk_at dksX10_go_3 12 rfl rfl)
theorem dX10_go_82 : decode cX10_go 82 = .ok (.iconst 1, 1) := dk_4 (dk_at dksX10_go_3 13 rfl rfl)
theorem dX10_go_83 : decode cX10_go 83 = .ok (.if_icmp .lt 96, 3) := dk_161 0 96 (dk_at dksX10_go_3 14 rfl rfl)
theorem dX10_go_86 : decode cX10_go 86 = .ok (.aload_n 0, 1) := dk_42 (dk_at dksX10_go_3 17 rfl rfl)
theorem dX10_go_87 : decode cX10_go 87 = .ok (.getfield 3, 3) := dk_180 0 3 (dk_at dksX10_go_3 18 rfl rfl)
theorem dX10_go_90 : decode cX10_go 90 = .ok (.iload_n 1, 1) := dk_27 (dk_at dksX10_go_3 21 rfl rfl)
theorem dX10_go_91 : decode cX10_go 91 = .ok (.invokevirtual 57, 3) := dk_182 0 57 (dk_at dksX10_go_4 0 rfl rfl)
theorem dX10_go_94 : decode cX10_go 94 = .ok (.iload_n 3, 1) := dk_29 (dk_at dksX10_go_4 3 rfl rfl)
theorem dX10_go_95 : decode cX10_go 95 = .ok (.iand, 1) := dk_126 (dk_at dksX10_go_4 4 rfl rfl)
theorem dX10_go_96 : decode cX10_go 96 = .ok (.ifCond .ne 83, 3) := dk_154 0 83 (dk_at dksX10_go_4 5 rfl rfl)
theorem dX10_go_99 : decode cX10_go 99 = .ok (.aload_n 0, 1) := dk_42 (dk_at dksX10_go_4 8 rfl rfl)
theorem dX10_go_100 : decode cX10_go 100 = .ok (.iload_n 1, 1) := dk_27 (dk_at dksX10_go_4 9 rfl rfl)
theorem dX10_go_101 : decode cX10_go 101 = .ok (.aload_n 0, 1) := dk_42 (dk_at dksX10_go_4 10 rfl rfl)
theorem dX10_go_102 : decode cX10_go 102 = .ok (.getfield 3, 3) := dk_180 0 3 (dk_at dksX10_go_4 11 rfl rfl)
theorem dX10_go_105 : decode cX10_go 105 = .ok (.iload_n 1, 1) := dk_27 (dk_at dksX10_go_4 14 rfl rfl)
theorem dX10_go_106 : decode cX10_go 106 = .ok (.invokevirtual 57, 3) := dk_182 0 57 (dk_at dksX10_go_4 15 rfl rfl)
theorem dX10_go_109 : decode cX10_go 109 = .ok (.iload_n 3, 1) := dk_29 (dk_at dksX10_go_4 18 rfl rfl)
theorem dX10_go_110 : decode cX10_go 110 = .ok (.ior, 1) := dk_128 (dk_at dksX10_go_4 19 rfl rfl)
theorem dX10_go_111 : decode cX10_go 111 = .ok (.invokevirtual 60, 3) := dk_182 0 60 (dk_at dksX10_go_4 20 rfl rfl)
theorem dX10_go_114 : decode cX10_go 114 = .ok (.ifCond .ne 6, 3) := dk_154 0 6 (dk_at dksX10_go_5 0 rfl rfl)
theorem dX10_go_117 : decode cX10_go 117 = .ok (.goto 62, 3) := dk_167 0 62 (dk_at dksX10_go_5 3 rfl rfl)
theorem dX10_go_120 : decode cX10_go 120 = .ok (.aload_n 0, 1) := dk_42 (dk_at dksX10_go_5 6 rfl rfl)
theorem dX10_go_121 : decode cX10_go 121 = .ok (.getfield 15, 3) := dk_180 0 15 (dk_at dksX10_go_5 7 rfl rfl)
theorem dX10_go_124 : decode cX10_go 124 = .ok (.iconst 3, 1) := dk_6 (dk_at dksX10_go_5 10 rfl rfl)
theorem dX10_go_125 : decode cX10_go 125 = .ok (.iload_n 2, 1) := dk_28 (dk_at dksX10_go_5 11 rfl rfl)
theorem dX10_go_126 : decode cX10_go 126 = .ok (.imul, 1) := dk_104 (dk_at dksX10_go_5 12 rfl rfl)
theorem dX10_go_127 : decode cX10_go 127 = .ok (.iload_n 3, 1) := dk_29 (dk_at dksX10_go_5 13 rfl rfl)
theorem dX10_go_128 : decode cX10_go 128 = .ok (.iadd, 1) := dk_96 (dk_at dksX10_go_5 14 rfl rfl)
theorem dX10_go_129 : decode cX10_go 129 = .ok (.dup2, 1) := dk_92 (dk_at dksX10_go_5 15 rfl rfl)
theorem dX10_go_130 : decode cX10_go 130 = .ok (.iaload, 1) := dk_46 (dk_at dksX10_go_5 16 rfl rfl)
theorem dX10_go_131 : decode cX10_go 131 = .ok (.iconst 1, 1) := dk_4 (dk_at dksX10_go_5 17 rfl rfl)
theorem dX10_go_132 : decode cX10_go 132 = .ok (.isub, 1) := dk_100 (dk_at dksX10_go_5 18 rfl rfl)
theorem dX10_go_133 : decode cX10_go 133 = .ok (.iastore, 1) := dk_79 (dk_at dksX10_go_5 19 rfl rfl)
theorem dX10_go_134 : decode cX10_go 134 = .ok (.aload_n 0, 1) := dk_42 (dk_at dksX10_go_5 20 rfl rfl)
theorem dX10_go_135 : decode cX10_go 135 = .ok (.getfield 19, 3) := dk_180 0 19 (dk_at dksX10_go_5 21 rfl rfl)
theorem dX10_go_138 : decode cX10_go 138 = .ok (.iload_n 1, 1) := dk_27 (dk_at dksX10_go_6 0 rfl rfl)
theorem dX10_go_139 : decode cX10_go 139 = .ok (.bipush 10, 2) := dk_16 10 (dk_at dksX10_go_6 1 rfl rfl)
theorem dX10_go_141 : decode cX10_go 141 = .ok (.iload_n 2, 1) := dk_28 (dk_at dksX10_go_6 3 rfl rfl)
theorem dX10_go_142 : decode cX10_go 142 = .ok (.imul, 1) := dk_104 (dk_at dksX10_go_6 4 rfl rfl)
theorem dX10_go_143 : decode cX10_go 143 = .ok (.iload_n 3, 1) := dk_29 (dk_at dksX10_go_6 5 rfl rfl)
theorem dX10_go_144 : decode cX10_go 144 = .ok (.iadd, 1) := dk_96 (dk_at dksX10_go_6 6 rfl rfl)
theorem dX10_go_145 : decode cX10_go 145 = .ok (.iastore, 1) := dk_79 (dk_at dksX10_go_6 7 rfl rfl)
theorem dX10_go_146 : decode cX10_go 146 = .ok (.aload_n 0, 1) := dk_42 (dk_at dksX10_go_6 8 rfl rfl)
theorem dX10_go_147 : decode cX10_go 147 = .ok (.iload_n 1, 1) := dk_27 (dk_at dksX10_go_6 9 rfl rfl)
theorem dX10_go_148 : decode cX10_go 148 = .ok (.iconst 1, 1) := dk_4 (dk_at dksX10_go_6 10 rfl rfl)
theorem dX10_go_149 : decode cX10_go 149 = .ok (.iadd, 1) := dk_96 (dk_at dksX10_go_6 11 rfl rfl)
theorem dX10_go_150 : decode cX10_go 150 = .ok (.invokevirtual 63, 3) := dk_182 0 63 (dk_at dksX10_go_6 12 rfl rfl)
theorem dX10_go_153 : decode cX10_go 153 = .ok (.ifCond .eq 5, 3) := dk_153 0 5 (dk_at dksX10_go_6 15 rfl rfl)
theorem dX10_go_156 : decode cX10_go 156 = .ok (.iconst 1, 1) := dk_4 (dk_at dksX10_go_6 18 rfl rfl)
theorem dX10_go_157 : decode cX10_go 157 = .ok (.ireturn, 1) := dk_172 (dk_at dksX10_go_6 19 rfl rfl)
theorem dX10_go_158 : decode cX10_go 158 = .ok (.aload_n 0, 1) := dk_42 (dk_at dksX10_go_6 20 rfl rfl)
theorem dX10_go_159 : decode cX10_go 159 = .ok (.getfield 15, 3) := dk_180 0 15 (dk_at dksX10_go_6 21 rfl rfl)
theorem dX10_go_162 : decode cX10_go 162 = .ok (.iconst 3, 1) := dk_6 (dk_at dksX10_go_7 0 rfl rfl)
theorem dX10_go_163 : decode cX10_go 163 = .ok (.iload_n 2, 1) := dk_28 (dk_at dksX10_go_7 1 rfl rfl)
theorem dX10_go_164 : decode cX10_go 164 = .ok (.imul, 1) := dk_104 (dk_at dksX10_go_7 2 rfl rfl)
theorem dX10_go_165 : decode cX10_go 165 = .ok (.iload_n 3, 1) := dk_29 (dk_at dksX10_go_7 3 rfl rfl)
theorem dX10_go_166 : decode cX10_go 166 = .ok (.iadd, 1) := dk_96 (dk_at dksX10_go_7 4 rfl rfl)
theorem dX10_go_167 : decode cX10_go 167 = .ok (.dup2, 1) := dk_92 (dk_at dksX10_go_7 5 rfl rfl)
theorem dX10_go_168 : decode cX10_go 168 = .ok (.iaload, 1) := dk_46 (dk_at dksX10_go_7 6 rfl rfl)
theorem dX10_go_169 : decode cX10_go 169 = .ok (.iconst 1, 1) := dk_4 (dk_at dksX10_go_7 7 rfl rfl)
theorem dX10_go_170 : decode cX10_go 170 = .ok (.iadd, 1) := dk_96 (dk_at dksX10_go_7 8 rfl rfl)
theorem dX10_go_171 : decode cX10_go 171 = .ok (.iastore, 1) := dk_79 (dk_at dksX10_go_7 9 rfl rfl)
theorem dX10_go_172 : decode cX10_go 172 = .ok (.aload_n 0, 1) := dk_42 (dk_at dksX10_go_7 10 rfl rfl)
theorem dX10_go_173 : decode cX10_go 173 = .ok (.getfield 19, 3) := dk_180 0 19 (dk_at dksX10_go_7 11 rfl rfl)
theorem dX10_go_176 : decode cX10_go 176 = .ok (.iload_n 1, 1) := dk_27 (dk_at dksX10_go_7 14 rfl rfl)
theorem dX10_go_177 : decode cX10_go 177 = .ok (.iconst (-1), 1) := dk_2 (dk_at dksX10_go_7 15 rfl rfl)
theorem dX10_go_178 : decode cX10_go 178 = .ok (.iastore, 1) := dk_79 (dk_at dksX10_go_7 16 rfl rfl)
theorem dX10_go_179 : decode cX10_go 179 = .ok (.iinc 3 1, 3) := dk_132 3 1 (dk_at dksX10_go_7 17 rfl rfl)
theorem dX10_go_182 : decode cX10_go 182 = .ok (.goto (-120), 3) := dk_167 255 136 (dk_at dksX10_go_7 20 rfl rfl)
theorem dX10_go_185 : decode cX10_go 185 = .ok (.iinc 2 1, 3) := dk_132 2 1 (dk_at dksX10_go_8 0 rfl rfl)
theorem dX10_go_188 : decode cX10_go 188 = .ok (.goto (-139), 3) := dk_167 255 117 (dk_at dksX10_go_8 3 rfl rfl)
theorem dX10_go_191 : decode cX10_go 191 = .ok (.aload_n 0, 1) := dk_42 (dk_at dksX10_go_8 6 rfl rfl)
theorem dX10_go_192 : decode cX10_go 192 = .ok (.dup, 1) := dk_89 (dk_at dksX10_go_8 7 rfl rfl)
theorem dX10_go_193 : decode cX10_go 193 = .ok (.getfield 67, 3) := dk_180 0 67 (dk_at dksX10_go_8 8 rfl rfl)
theorem dX10_go_196 : decode cX10_go 196 = .ok (.iconst 1, 1) := dk_4 (dk_at dksX10_go_8 11 rfl rfl)
theorem dX10_go_197 : decode cX10_go 197 = .ok (.isub, 1) := dk_100 (dk_at dksX10_go_8 12 rfl rfl)
theorem dX10_go_198 : decode cX10_go 198 = .ok (.putfield 67, 3) := dk_181 0 67 (dk_at dksX10_go_8 13 rfl rfl)
theorem dX10_go_201 : decode cX10_go 201 = .ok (.iconst 0, 1) := dk_3 (dk_at dksX10_go_8 16 rfl rfl)
theorem dX10_go_202 : decode cX10_go 202 = .ok (.ireturn, 1) := dk_172 (dk_at dksX10_go_8 17 rfl rfl)
def dkwX10_isFine_1 : List UInt8 := [29, 182, 0, 54, 28, 126, 154, 0, 5, 3, 172, 132, 3, 1, 167, 255, 223, 4, 172]
abbrev dktX10_isFine_1 : List UInt8 := dkwX10_isFine_1 ++ []
def dkwX10_isFine_0 : List UInt8 := [42, 180, 0, 22, 62, 29, 42, 180, 0, 26, 163, 0, 31, 42, 27, 29, 182, 0, 54, 153, 0, 16, 42, 27]
abbrev dktX10_isFine_0 : List UInt8 := dkwX10_isFine_0 ++ dktX10_isFine_1
theorem dksX10_isFine_0 : cX10_isFine.data.toList.drop 0 = dktX10_isFine_0 := by decide +kernel
theorem dksX10_isFine_1 : cX10_isFine.data.toList.drop 24 = dktX10_isFine_1 := dk_seg dksX10_isFine_0 24 rfl rfl
theorem dX10_isFine_0 : decode cX10_isFine 0 = .ok (.aload_n 0, 1) := dk_42 (dk_at dksX10_isFine_0 0 rfl rfl)
theorem dX10_isFine_1 : decode cX10_isFine 1 = .ok (.getfield 22, 3) := dk_180 0 22 (dk_at dksX10_isFine_0 1 rfl rfl)
theorem dX10_isFine_4 : decode cX10_isFine 4 = .ok (.istore_n 3, 1) := dk_62 (dk_at dksX10_isFine_0 4 rfl rfl)
theorem dX10_isFine_5 : decode cX10_isFine 5 = .ok (.iload_n 3, 1) := dk_29 (dk_at dksX10_isFine_0 5 rfl rfl)
theorem dX10_isFine_6 : decode cX10_isFine 6 = .ok (.aload_n 0, 1) := dk_42 (dk_at dksX10_isFine_0 6 rfl rfl)
theorem dX10_isFine_7 : decode cX10_isFine 7 = .ok (.getfield 26, 3) := dk_180 0 26 (dk_at dksX10_isFine_0 7 rfl rfl)
theorem dX10_isFine_10 : decode cX10_isFine 10 = .ok (.if_icmp .gt 31, 3) := dk_163 0 31 (dk_at dksX10_isFine_0 10 rfl rfl)
theorem dX10_isFine_13 : decode cX10_isFine 13 = .ok (.aload_n 0, 1) := dk_42 (dk_at dksX10_isFine_0 13 rfl rfl)
theorem dX10_isFine_14 : decode cX10_isFine 14 = .ok (.iload_n 1, 1) := dk_27 (dk_at dksX10_isFine_0 14 rfl rfl)
theorem dX10_isFine_15 : decode cX10_isFine 15 = .ok (.iload_n 3, 1) := dk_29 (dk_at dksX10_isFine_0 15 rfl rfl)
theorem dX10_isFine_16 : decode cX10_isFine 16 = .ok (.invokevirtual 54, 3) := dk_182 0 54 (dk_at dksX10_isFine_0 16 rfl rfl)
theorem dX10_isFine_19 : decode cX10_isFine 19 = .ok (.ifCond .eq 16, 3) := dk_153 0 16 (dk_at dksX10_isFine_0 19 rfl rfl)
theorem dX10_isFine_22 : decode cX10_isFine 22 = .ok (.aload_n 0, 1) := dk_42 (dk_at dksX10_isFine_0 22 rfl rfl)
theorem dX10_isFine_23 : decode cX10_isFine 23 = .ok (.iload_n 1, 1) := dk_27 (dk_at dksX10_isFine_0 23 rfl rfl)
theorem dX10_isFine_24 : decode cX10_isFine 24 = .ok (.iload_n 3, 1) := dk_29 (dk_at dksX10_isFine_1 0 rfl rfl)
theorem dX10_isFine_25 : decode cX10_isFine 25 = .ok (.invokevirtual 54, 3) := dk_182 0 54 (dk_at dksX10_isFine_1 1 rfl rfl)
theorem dX10_isFine_28 : decode cX10_isFine 28 = .ok (.iload_n 2, 1) := dk_28 (dk_at dksX10_isFine_1 4 rfl rfl)
theorem dX10_isFine_29 : decode cX10_isFine 29 = .ok (.iand, 1) := dk_126 (dk_at dksX10_isFine_1 5 rfl rfl)
theorem dX10_isFine_30 : decode cX10_isFine 30 = .ok (.ifCond .ne 5, 3) := dk_154 0 5 (dk_at dksX10_isFine_1 6 rfl rfl)
theorem dX10_isFine_33 : decode cX10_isFine 33 = .ok (.iconst 0, 1) := dk_3 (dk_at dksX10_isFine_1 9 rfl rfl)
theorem dX10_isFine_34 : decode cX10_isFine 34 = .ok (.ireturn, 1) := dk_172 (dk_at dksX10_isFine_1 10 rfl rfl)
theorem dX10_isFine_35 : decode cX10_isFine 35 = .ok (.iinc 3 1, 3) := dk_132 3 1 (dk_at dksX10_isFine_1 11 rfl rfl)
theorem dX10_isFine_38 : decode cX10_isFine 38 = .ok (.goto (-33), 3) := dk_167 255 223 (dk_at dksX10_isFine_1 14 rfl rfl)
theorem dX10_isFine_41 : decode cX10_isFine 41 = .ok (.iconst 1, 1) := dk_4 (dk_at dksX10_isFine_1 17 rfl rfl)
theorem dX10_isFine_42 : decode cX10_isFine 42 = .ok (.ireturn, 1) := dk_172 (dk_at dksX10_isFine_1 18 rfl rfl)
def dkwX2_init_2 : List UInt8 := [4, 79, 181, 0, 25, 177]
abbrev dktX2_init_2 : List UInt8 := dkwX2_init_2 ++ []
def dkwX2_init_1 : List UInt8 := [6, 188, 10, 181, 0, 22, 42, 7, 188, 10, 89, 3, 6, 79, 89, 4, 4, 79, 89, 5, 5, 79, 89, 6]
abbrev dktX2_init_1 : List UInt8 := dkwX2_init_1 ++ dktX2_init_2
def dkwX2_init_0 : List UInt8 := [42, 183, 0, 3, 42, 187, 0, 9, 89, 183, 0, 11, 181, 0, 12, 42, 16, 8, 188, 10, 181, 0, 18, 42]
abbrev dktX2_init_0 : List UInt8 := dkwX2_init_0 ++ dktX2_init_1
theorem dksX2_init_0 : cX2_init.data.toList.drop 0 = dktX2_init_0 := by decide +kernel
theorem dksX2_init_1 : cX2_init.data.toList.drop 24 = dktX2_init_1 := dk_seg dksX2_init_0 24 rfl rfl
theorem dksX2_init_2 : cX2_init.data.toList.drop 48 = dktX2_init_2 := dk_seg dksX2_init_1 24 rfl rfl
theorem dX2_init_0 : decode cX2_init 0 = .ok (.aload_n 0, 1) := dk_42 (dk_at dksX2_init_0 0 rfl rfl)
theorem dX2_init_1 : decode cX2_init 1 = .ok (.invokespecial 3, 3) := dk_183 0 3 (dk_at dksX2_init_0 1 rfl rfl)
theorem dX2_init_4 : decode cX2_init 4 = .ok (.aload_n 0, 1) := dk_42 (dk_at dksX2_init_0 4 rfl rfl)
theorem dX2_init_5 : decode cX2_init 5 = .ok (.new 9, 3) := dk_187 0 9 (dk_at dksX2_init_0 5 rfl rfl)
theorem dX2_init_8 : decode cX2_init 8 = .ok (.dup, 1) := dk_89 (dk_at dksX2_init_0 8 rfl rfl)
theorem dX2_init_9 : decode cX2_init 9 = .ok (.invokespecial 11, 3) := dk_183 0 11 (dk_at dksX2_init_0 9 rfl rfl)
theorem dX2_init_12 : decode cX2_init 12 = .ok (.putfield 12, 3) := dk_181 0 12 (dk_at dksX2_init_0 12 rfl rfl)
theorem dX2_init_15 : decode cX2_init 15 = .ok (.aload_n 0, 1) := dk_42 (dk_at dksX2_init_0 15 rfl rfl)
theorem dX2_init_16 : decode cX2_init 16 = .ok (.bipush 8, 2) := dk_16 8 (dk_at dksX2_init_0 16 rfl rfl)
theorem dX2_init_18 : decode cX2_init 18 = .ok (.newarray .int, 2) := dk_188_10 (dk_at dksX2_init_0 18 rfl rfl)
theorem dX2_init_20 : decode cX2_init 20 = .ok (.putfield 18, 3) := dk_181 0 18 (dk_at dksX2_init_0 20 rfl rfl)
theorem dX2_init_23 : decode cX2_init 23 = .ok (.aload_n 0, 1) := dk_42 (dk_at dksX2_init_0 23 rfl rfl)
theorem dX2_init_24 : decode cX2_init 24 = .ok (.iconst 3, 1) := dk_6 (dk_at dksX2_init_1 0 rfl rfl)
theorem dX2_init_25 : decode cX2_init 25 = .ok (.newarray .int, 2) := dk_188_10 (dk_at dksX2_init_1 1 rfl rfl)
theorem dX2_init_27 : decode cX2_init 27 = .ok (.putfield 22, 3) := dk_181 0 22 (dk_at dksX2_init_1 3 rfl rfl)
theorem dX2_init_30 : decode cX2_init 30 = .ok (.aload_n 0, 1) := dk_42 (dk_at dksX2_init_1 6 rfl rfl)
theorem dX2_init_31 : decode cX2_init 31 = .ok (.iconst 4, 1) := dk_7 (dk_at dksX2_init_1 7 rfl rfl)
theorem dX2_init_32 : decode cX2_init 32 = .ok (.newarray .int, 2) := dk_188_10 (dk_at dksX2_init_1 8 rfl rfl)
theorem dX2_init_34 : decode cX2_init 34 = .ok (.dup, 1) := dk_89 (dk_at dksX2_init_1 10 rfl rfl)
theorem dX2_init_35 : decode cX2_init 35 = .ok (.iconst 0, 1) := dk_3 (dk_at dksX2_init_1 11 rfl rfl)
theorem dX2_init_36 : decode cX2_init 36 = .ok (.iconst 3, 1) := dk_6 (dk_at dksX2_init_1 12 rfl rfl)
theorem dX2_init_37 : decode cX2_init 37 = .ok (.iastore, 1) := dk_79 (dk_at dksX2_init_1 13 rfl rfl)
theorem dX2_init_38 : decode cX2_init 38 = .ok (.dup, 1) := dk_89 (dk_at dksX2_init_1 14 rfl rfl)
theorem dX2_init_39 : decode cX2_init 39 = .ok (.iconst 1, 1) := dk_4 (dk_at dksX2_init_1 15 rfl rfl)
theorem dX2_init_40 : decode cX2_init 40 = .ok (.iconst 1, 1) := dk_4 (dk_at dksX2_init_1 16 rfl rfl)
theorem dX2_init_41 : decode cX2_init 41 = .ok (.iastore, 1) := dk_79 (dk_at dksX2_init_1 17 rfl rfl)
theorem dX2_init_42 : decode cX2_init 42 = .ok (.dup, 1) := dk_89 (dk_at dksX2_init_1 18 rfl rfl)
theorem dX2_init_43 : decode cX2_init 43 = .ok (.iconst 2, 1) := dk_5 (dk_at dksX2_init_1 19 rfl rfl)
theorem dX2_init_44 : decode cX2_init 44 = .ok (.iconst 2, 1) := dk_5 (dk_at dksX2_init_1 20 rfl rfl)
theorem dX2_init_45 : decode cX2_init 45 = .ok (.iastore, 1) := dk_79 (dk_at dksX2_init_1 21 rfl rfl)
theorem dX2_init_46 : decode cX2_init 46 = .ok (.dup, 1) := dk_89 (dk_at dksX2_init_1 22 rfl rfl)
theorem dX2_init_47 : decode cX2_init 47 = .ok (.iconst 3, 1) := dk_6 (dk_at dksX2_init_1 23 rfl rfl)
theorem dX2_init_48 : decode cX2_init 48 = .ok (.iconst 1, 1) := dk_4 (dk_at dksX2_init_2 0 rfl rfl)
theorem dX2_init_49 : decode cX2_init 49 = .ok (.iastore, 1) := dk_79 (dk_at dksX2_init_2 1 rfl rfl)
theorem dX2_init_50 : decode cX2_init 50 = .ok (.putfield 25, 3) := dk_181 0 25 (dk_at dksX2_init_2 2 rfl rfl)
theorem dX2_init_53 : decode cX2_init 53 = .ok (.return_, 1) := dk_177 (dk_at dksX2_init_2 5 rfl rfl)
def dkwX2_lawFor_0 : List UInt8 := [42, 180, 0, 25, 27, 16, 10, 161, 0, 7, 3, 167, 0, 4, 27, 46, 172]
abbrev dktX2_lawFor_0 : List UInt8 := dkwX2_lawFor_0 ++ []
theorem dksX2_lawFor_0 : cX2_lawFor.data.toList.drop 0 = dktX2_lawFor_0 := by decide +kernel
theorem dX2_lawFor_0 : decode cX2_lawFor 0 = .ok (.aload_n 0, 1) := dk_42 (dk_at dksX2_lawFor_0 0 rfl rfl)
theorem dX2_lawFor_1 : decode cX2_lawFor 1 = .ok (.getfield 25, 3) := dk_180 0 25 (dk_at dksX2_lawFor_0 1 rfl rfl)
theorem dX2_lawFor_4 : decode cX2_lawFor 4 = .ok (.iload_n 1, 1) := dk_27 (dk_at dksX2_lawFor_0 4 rfl rfl)
theorem dX2_lawFor_5 : decode cX2_lawFor 5 = .ok (.bipush 10, 2) := dk_16 10 (dk_at dksX2_lawFor_0 5 rfl rfl)
theorem dX2_lawFor_7 : decode cX2_lawFor 7 = .ok (.if_icmp .lt 7, 3) := dk_161 0 7 (dk_at dksX2_lawFor_0 7 rfl rfl)
theorem dX2_lawFor_10 : decode cX2_lawFor 10 = .ok (.iconst 0, 1) := dk_3 (dk_at dksX2_lawFor_0 10 rfl rfl)
theorem dX2_lawFor_11 : decode cX2_lawFor 11 = .ok (.goto 4, 3) := dk_167 0 4 (dk_at dksX2_lawFor_0 11 rfl rfl)
theorem dX2_lawFor_14 : decode cX2_lawFor 14 = .ok (.iload_n 1, 1) := dk_27 (dk_at dksX2_lawFor_0 14 rfl rfl)
theorem dX2_lawFor_15 : decode cX2_lawFor 15 = .ok (.iaload, 1) := dk_46 (dk_at dksX2_lawFor_0 15 rfl rfl)
theorem dX2_lawFor_16 : decode cX2_lawFor 16 = .ok (.ireturn, 1) := dk_172 (dk_at dksX2_lawFor_0 16 rfl rfl)
def dkwX2_lodgerOf_2 : List UInt8 := [172]
abbrev dktX2_lodgerOf_2 : List UInt8 := dkwX2_lodgerOf_2 ++ []
def dkwX2_lodgerOf_1 : List UInt8 := [185, 0, 34, 2, 0, 192, 0, 38, 180, 0, 40, 27, 160, 0, 5, 28, 172, 132, 2, 1, 167, 255, 218, 2]
abbrev dktX2_lodgerOf_1 : List UInt8 := dkwX2_lodgerOf_1 ++ dktX2_lodgerOf_2
def dkwX2_lodgerOf_0 : List UInt8 := [3, 61, 28, 42, 180, 0, 12, 185, 0, 28, 1, 0, 162, 0, 31, 42, 180, 0, 12, 28]
abbrev dktX2_lodgerOf_0 : List UInt8 := dkwX2_lodgerOf_0 ++ dktX2_lodgerOf_1
theorem dksX2_lodgerOf_0 : cX2_lodgerOf.data.toList.drop 0 = dktX2_lodgerOf_0 := by decide +kernel
theorem dksX2_lodgerOf_1 : cX2_lodgerOf.data.toList.drop 20 = dktX2_lodgerOf_1 := dk_seg dksX2_lodgerOf_0 20 rfl rfl
theorem dksX2_lodgerOf_2 : cX2_lodgerOf.data.toList.drop 44 = dktX2_lodgerOf_2 := dk_seg dksX2_lodgerOf_1 24 rfl rfl
theorem dX2_lodgerOf_0 : decode cX2_lodgerOf 0 = .ok (.iconst 0, 1) := dk_3 (dk_at dksX2_lodgerOf_0 0 rfl rfl)
theorem dX2_lodgerOf_1 : decode cX2_lodgerOf 1 = .ok (.istore_n 2, 1) := dk_61 (dk_at dksX2_lodgerOf_0 1 rfl rfl)
theorem dX2_lodgerOf_2 : decode cX2_lodgerOf 2 = .ok (.iload_n 2, 1) := dk_28 (dk_at dksX2_lodgerOf_0 2 rfl rfl)
theorem dX2_lodgerOf_3 : decode cX2_lodgerOf 3 = .ok (.aload_n 0, 1) := dk_42 (dk_at dksX2_lodgerOf_0 3 rfl rfl)
theorem dX2_lodgerOf_4 : decode cX2_lodgerOf 4 = .ok (.getfield 12, 3) := dk_180 0 12 (dk_at dksX2_lodgerOf_0 4 rfl rfl)
theorem dX2_lodgerOf_7 : decode cX2_lodgerOf 7 = .ok (.invokeinterface 28 1, 5) := by decide +kernel
theorem dX2_lodgerOf_12 : decode cX2_lodgerOf 12 = .ok (.if_icmp .ge 31, 3) := dk_162 0 31 (dk_at dksX2_lodgerOf_0 12 rfl rfl)
theorem dX2_lodgerOf_15 : decode cX2_lodgerOf 15 = .ok (.aload_n 0, 1) := dk_42 (dk_at dksX2_lodgerOf_0 15 rfl rfl)
theorem dX2_lodgerOf_16 : decode cX2_lodgerOf 16 = .ok (.getfield 12, 3) := dk_180 0 12 (dk_at dksX2_lodgerOf_0 16 rfl rfl)
theorem dX2_lodgerOf_19 : decode cX2_lodgerOf 19 = .ok (.iload_n 2, 1) := dk_28 (dk_at dksX2_lodgerOf_0 19 rfl rfl)
theorem dX2_lodgerOf_20 : decode cX2_lodgerOf 20 = .ok (.invokeinterface 34 2, 5) := by decide +kernel
theorem dX2_lodgerOf_25 : decode cX2_lodgerOf 25 = .ok (.checkcast 38, 3) := dk_192 0 38 (dk_at dksX2_lodgerOf_1 5 rfl rfl)
theorem dX2_lodgerOf_28 : decode cX2_lodgerOf 28 = .ok (.getfield 40, 3) := dk_180 0 40 (dk_at dksX2_lodgerOf_1 8 rfl rfl)
theorem dX2_lodgerOf_31 : decode cX2_lodgerOf 31 = .ok (.iload_n 1, 1) := dk_27 (dk_at dksX2_lodgerOf_1 11 rfl rfl)
theorem dX2_lodgerOf_32 : decode cX2_lodgerOf 32 = .ok (.if_icmp .ne 5, 3) := dk_160 0 5 (dk_at dksX2_lodgerOf_1 12 rfl rfl)
theorem dX2_lodgerOf_35 : decode cX2_lodgerOf 35 = .ok (.iload_n 2, 1) := dk_28 (dk_at dksX2_lodgerOf_1 15 rfl rfl)
theorem dX2_lodgerOf_36 : decode cX2_lodgerOf 36 = .ok (.ireturn, 1) := dk_172 (dk_at dksX2_lodgerOf_1 16 rfl rfl)
theorem dX2_lodgerOf_37 : decode cX2_lodgerOf 37 = .ok (.iinc 2 1, 3) := dk_132 2 1 (dk_at dksX2_lodgerOf_1 17 rfl rfl)
theorem dX2_lodgerOf_40 : decode cX2_lodgerOf 40 = .ok (.goto (-38), 3) := dk_167 255 218 (dk_at dksX2_lodgerOf_1 20 rfl rfl)
theorem dX2_lodgerOf_43 : decode cX2_lodgerOf 43 = .ok (.iconst (-1), 1) := dk_2 (dk_at dksX2_lodgerOf_1 23 rfl rfl)
theorem dX2_lodgerOf_44 : decode cX2_lodgerOf 44 = .ok (.ireturn, 1) := dk_172 (dk_at dksX2_lodgerOf_2 0 rfl rfl)
def dkwX4_init_1 : List UInt8 := [181, 0, 22, 177]
abbrev dktX4_init_1 : List UInt8 := dkwX4_init_1 ++ []
def dkwX4_init_0 : List UInt8 := [42, 43, 181, 0, 3, 42, 183, 0, 9, 42, 187, 0, 15, 89, 183, 0, 17, 181, 0, 18, 42, 28]
abbrev dktX4_init_0 : List UInt8 := dkwX4_init_0 ++ dktX4_init_1
theorem dksX4_init_0 : cX4_init.data.toList.drop 0 = dktX4_init_0 := by decide +kernel
theorem dksX4_init_1 : cX4_init.data.toList.drop 22 = dktX4_init_1 := dk_seg dksX4_init_0 22 rfl rfl
theorem dX4_init_0 : decode cX4_init 0 = .ok (.aload_n 0, 1) := dk_42 (dk_at dksX4_init_0 0 rfl rfl)
theorem dX4_init_1 : decode cX4_init 1 = .ok (.aload_n 1, 1) := dk_43 (dk_at dksX4_init_0 1 rfl rfl)
theorem dX4_init_2 : decode cX4_init 2 = .ok (.putfield 3, 3) := dk_181 0 3 (dk_at dksX4_init_0 2 rfl rfl)
theorem dX4_init_5 : decode cX4_init 5 = .ok (.aload_n 0, 1) := dk_42 (dk_at dksX4_init_0 5 rfl rfl)
theorem dX4_init_6 : decode cX4_init 6 = .ok (.invokespecial 9, 3) := dk_183 0 9 (dk_at dksX4_init_0 6 rfl rfl)
theorem dX4_init_9 : decode cX4_init 9 = .ok (.aload_n 0, 1) := dk_42 (dk_at dksX4_init_0 9 rfl rfl)
theorem dX4_init_10 : decode cX4_init 10 = .ok (.new 15, 3) := dk_187 0 15 (dk_at dksX4_init_0 10 rfl rfl)
theorem dX4_init_13 : decode cX4_init 13 = .ok (.dup, 1) := dk_89 (dk_at dksX4_init_0 13 rfl rfl)
theorem dX4_init_14 : decode cX4_init 14 = .ok (.invokespecial 17, 3) := dk_183 0 17 (dk_at dksX4_init_0 14 rfl rfl)
theorem dX4_init_17 : decode cX4_init 17 = .ok (.putfield 18, 3) := dk_181 0 18 (dk_at dksX4_init_0 17 rfl rfl)
theorem dX4_init_20 : decode cX4_init 20 = .ok (.aload_n 0, 1) := dk_42 (dk_at dksX4_init_0 20 rfl rfl)
theorem dX4_init_21 : decode cX4_init 21 = .ok (.iload_n 2, 1) := dk_28 (dk_at dksX4_init_0 21 rfl rfl)
theorem dX4_init_22 : decode cX4_init 22 = .ok (.putfield 22, 3) := dk_181 0 22 (dk_at dksX4_init_1 0 rfl rfl)
theorem dX4_init_25 : decode cX4_init 25 = .ok (.return_, 1) := dk_177 (dk_at dksX4_init_1 3 rfl rfl)
def dkwX4_read_0 : List UInt8 := [42, 182, 0, 79, 42, 180, 0, 44, 153, 0, 10, 42, 182, 0, 187, 167, 255, 245, 42, 180, 0, 18, 176]
abbrev dktX4_read_0 : List UInt8 := dkwX4_read_0 ++ []
theorem dksX4_read_0 : cX4_read.data.toList.drop 0 = dktX4_read_0 := by decide +kernel
theorem dX4_read_0 : decode cX4_read 0 = .ok (.aload_n 0, 1) := dk_42 (dk_at dksX4_read_0 0 rfl rfl)
theorem dX4_read_1 : decode cX4_read 1 = .ok (.invokevirtual 79, 3) := dk_182 0 79 (dk_at dksX4_read_0 1 rfl rfl)
theorem dX4_read_4 : decode cX4_read 4 = .ok (.aload_n 0, 1) := dk_42 (dk_at dksX4_read_0 4 rfl rfl)
theorem dX4_read_5 : decode cX4_read 5 = .ok (.getfield 44, 3) := dk_180 0 44 (dk_at dksX4_read_0 5 rfl rfl)
theorem dX4_read_8 : decode cX4_read 8 = .ok (.ifCond .eq 10, 3) := dk_153 0 10 (dk_at dksX4_read_0 8 rfl rfl)
theorem dX4_read_11 : decode cX4_read 11 = .ok (.aload_n 0, 1) := dk_42 (dk_at dksX4_read_0 11 rfl rfl)
theorem dX4_read_12 : decode cX4_read 12 = .ok (.invokevirtual 187, 3) := dk_182 0 187 (dk_at dksX4_read_0 12 rfl rfl)
theorem dX4_read_15 : decode cX4_read 15 = .ok (.goto (-11), 3) := dk_167 255 245 (dk_at dksX4_read_0 15 rfl rfl)
theorem dX4_read_18 : decode cX4_read 18 = .ok (.aload_n 0, 1) := dk_42 (dk_at dksX4_read_0 18 rfl rfl)
theorem dX4_read_19 : decode cX4_read 19 = .ok (.getfield 18, 3) := dk_180 0 18 (dk_at dksX4_read_0 19 rfl rfl)
theorem dX4_read_22 : decode cX4_read 22 = .ok (.areturn, 1) := dk_176 (dk_at dksX4_read_0 22 rfl rfl)
def dkwX4_next_8 : List UInt8 := [180, 0, 26, 181, 0, 63, 177]
abbrev dktX4_next_8 : List UInt8 := dkwX4_next_8 ++ []
def dkwX4_next_7 : List UInt8 := [160, 0, 7, 6, 167, 0, 4, 7, 181, 0, 44, 42, 89, 180, 0, 26, 4, 96, 181, 0, 26, 42, 42]
abbrev dktX4_next_7 : List UInt8 := dkwX4_next_7 ++ dktX4_next_8
def dkwX4_next_6 : List UInt8 := [96, 181, 0, 26, 167, 255, 214, 42, 5, 181, 0, 44, 167, 0, 31, 42, 42, 182, 0, 33, 16, 59]
abbrev dktX4_next_6 : List UInt8 := dkwX4_next_6 ++ dktX4_next_7
def dkwX4_next_5 : List UInt8 := [180, 0, 54, 104, 42, 182, 0, 33, 96, 16, 48, 100, 184, 0, 57, 181, 0, 54, 42, 89, 180, 0, 26, 4]
abbrev dktX4_next_5 : List UInt8 := dkwX4_next_5 ++ dktX4_next_6
def dkwX4_next_4 : List UInt8 := [153, 0, 61, 42, 3, 181, 0, 54, 42, 182, 0, 51, 153, 0, 41, 42, 17, 39, 16, 16, 10, 42]
abbrev dktX4_next_4 : List UInt8 := dkwX4_next_4 ++ dktX4_next_5
def dkwX4_next_3 : List UInt8 := [180, 0, 26, 4, 96, 181, 0, 26, 167, 255, 239, 42, 4, 181, 0, 44, 167, 0, 96, 42, 182, 0, 51]
abbrev dktX4_next_3 : List UInt8 := dkwX4_next_3 ++ dktX4_next_4
def dkwX4_next_2 : List UInt8 := [3, 181, 0, 44, 167, 0, 131, 42, 182, 0, 47, 153, 0, 31, 42, 182, 0, 47, 153, 0, 16, 42, 89]
abbrev dktX4_next_2 : List UInt8 := dkwX4_next_2 ++ dktX4_next_3
def dkwX4_next_1 : List UInt8 := [96, 181, 0, 26, 167, 255, 228, 42, 42, 180, 0, 26, 181, 0, 41, 42, 182, 0, 33, 2, 160, 0, 11, 42]
abbrev dktX4_next_1 : List UInt8 := dkwX4_next_1 ++ dktX4_next_2
def dkwX4_next_0 : List UInt8 := [42, 182, 0, 33, 16, 32, 159, 0, 12, 42, 182, 0, 33, 16, 10, 160, 0, 16, 42, 89, 180, 0, 26, 4]
abbrev dktX4_next_0 : List UInt8 := dkwX4_next_0 ++ dktX4_next_1
theorem dksX4_next_0 : cX4_next.data.toList.drop 0 = dktX4_next_0 := by decide +kernel
theorem dksX4_next_1 : cX4_next.data.toList.drop 24 = dktX4_next_1 := dk_seg dksX4_next_0 24 rfl rfl
theorem dksX4_next_2 : cX4_next.data.toList.drop 48 = dktX4_next_2 := dk_seg dksX4_next_1 24 rfl rfl
theorem dksX4_next_3 : cX4_next.data.toList.drop 71 = dktX4_next_3 := dk_seg dksX4_next_2 23 rfl rfl
theorem dksX4_next_4 : cX4_next.data.toList.drop 94 = dktX4_next_4 := dk_seg dksX4_next_3 23 rfl rfl
theorem dksX4_next_5 : cX4_next.data.toList.drop 116 = dktX4_next_5 := dk_seg dksX4_next_4 22 rfl rfl
theorem dksX4_next_6 : cX4_next.data.toList.drop 140 = dktX4_next_6 := dk_seg dksX4_next_5 24 rfl rfl
theorem dksX4_next_7 : cX4_next.data.toList.drop 162 = dktX4_next_7 := dk_seg dksX4_next_6 22 rfl rfl
theorem dksX4_next_8 : cX4_next.data.toList.drop 185 = dktX4_next_8 := dk_seg dksX4_next_7 23 rfl rfl
theorem dX4_next_0 : decode cX4_next 0 = .ok (.aload_n 0, 1) := dk_42 (dk_at dksX4_next_0 0 rfl rfl)
theorem dX4_next_1 : decode cX4_next 1 = .ok (.invokevirtual 33, 3) := dk_182 0 33 (dk_at dksX4_next_0 1 rfl rfl)
theorem dX4_next_4 : decode cX4_next 4 = .ok (.bipush 32, 2) := dk_16 32 (dk_at dksX4_next_0 4 rfl rfl)
theorem dX4_next_6 : decode cX4_next 6 = .ok (.if_icmp .eq 12, 3) := dk_159 0 12 (dk_at dksX4_next_0 6 rfl rfl)
theorem dX4_next_9 : decode cX4_next 9 = .ok (.aload_n 0, 1) := dk_42 (dk_at dksX4_next_0 9 rfl rfl)
theorem dX4_next_10 : decode cX4_next 10 = .ok (.invokevirtual 33, 3) := dk_182 0 33 (dk_at dksX4_next_0 10 rfl rfl)
theorem dX4_next_13 : decode cX4_next 13 = .ok (.bipush 10, 2) := dk_16 10 (dk_at dksX4_next_0 13 rfl rfl)
theorem dX4_next_15 : decode cX4_next 15 = .ok (.if_icmp .ne 16, 3) := dk_160 0 16 (dk_at dksX4_next_0 15 rfl rfl)
theorem dX4_next_18 : decode cX4_next 18 = .ok (.aload_n 0, 1) := dk_42 (dk_at dksX4_next_0 18 rfl rfl)
theorem dX4_next_19 : decode cX4_next 19 = .ok (.dup, 1) := dk_89 (dk_at dksX4_next_0 19 rfl rfl)
theorem dX4_next_20 : decode cX4_next 20 = .ok (.getfield 26, 3) := dk_180 0 26 (dk_at dksX4_next_0 20 rfl rfl)
theorem dX4_next_23 : decode cX4_next 23 = .ok (.iconst 1, 1) := dk_4 (dk_at dksX4_next_0 23 rfl rfl)
theorem dX4_next_24 : decode cX4_next 24 = .ok (.iadd, 1) := dk_96 (dk_at dksX4_next_1 0 rfl rfl)
theorem dX4_next_25 : decode cX4_next 25 = .ok (.putfield 26, 3) := dk_181 0 26 (dk_at dksX4_next_1 1 rfl rfl)
theorem dX4_next_28 : decode cX4_next 28 = .ok (.goto (-28), 3) := dk_167 255 228 (dk_at dksX4_next_1 4 rfl rfl)
theorem dX4_next_31 : decode cX4_next 31 = .ok (.aload_n 0, 1) := dk_42 (dk_at dksX4_next_1 7 rfl rfl)
theorem dX4_next_32 : decode cX4_next 32 = .ok (.aload_n 0, 1) := dk_42 (dk_at dksX4_next_1 8 rfl rfl)
theorem dX4_next_33 : decode cX4_next 33 = .ok (.getfield 26, 3) := dk_180 0 26 (dk_at dksX4_next_1 9 rfl rfl)
theorem dX4_next_36 : decode cX4_next 36 = .ok (.putfield 41, 3) := dk_181 0 41 (dk_at dksX4_next_1 12 rfl rfl)
theorem dX4_next_39 : decode cX4_next 39 = .ok (.aload_n 0, 1) := dk_42 (dk_at dksX4_next_1 15 rfl rfl)
theorem dX4_next_40 : decode cX4_next 40 = .ok (.invokevirtual 33, 3) := dk_182 0 33 (dk_at dksX4_next_1 16 rfl rfl)
theorem dX4_next_43 : decode cX4_next 43 = .ok (.iconst (-1), 1) := dk_2 (dk_at dksX4_next_1 19 rfl rfl)
theorem dX4_next_44 : decode cX4_next 44 = .ok (.if_icmp .ne 11, 3) := dk_160 0 11 (dk_at dksX4_next_1 20 rfl rfl)
theorem dX4_next_47 : decode cX4_next 47 = .ok (.aload_n 0, 1) := dk_42 (dk_at dksX4_next_1 23 rfl rfl)
theorem dX4_next_48 : decode cX4_next 48 = .ok (.iconst 0, 1) := dk_3 (dk_at dksX4_next_2 0 rfl rfl)
theorem dX4_next_49 : decode cX4_next 49 = .ok (.putfield 44, 3) := dk_181 0 44 (dk_at dksX4_next_2 1 rfl rfl)
theorem dX4_next_52 : decode cX4_next 52 = .ok (.goto 131, 3) := dk_167 0 131 (dk_at dksX4_next_2 4 rfl rfl)
theorem dX4_next_55 : decode cX4_next 55 = .ok (.aload_n 0, 1) := dk_42 (dk_at dksX4_next_2 7 rfl rfl)
theorem dX4_next_56 : decode cX4_next 56 = .ok (.invokevirtual 47, 3) := dk_182 0 47 (dk_at dksX4_next_2 8 rfl rfl)
theorem dX4_next_59 : decode cX4_next 59 = .ok (.ifCond .eq 31, 3) := dk_153 0 31 (dk_at dksX4_next_2 11 rfl rfl)
theorem dX4_next_62 : decode cX4_next 62 = .ok (.aload_n 0, 1) := dk_42 (dk_at dksX4_next_2 14 rfl rfl)
theorem dX4_next_63 : decode cX4_next 63 = .ok (.invokevirtual 47, 3) := dk_182 0 47 (dk_at dksX4_next_2 15 rfl rfl)
theorem dX4_next_66 : decode cX4_next 66 = .ok (.ifCond .eq 16, 3) := dk_153 0 16 (dk_at dksX4_next_2 18 rfl rfl)
theorem dX4_next_69 : decode cX4_next 69 = .ok (.aload_n 0, 1) := dk_42 (dk_at dksX4_next_2 21 rfl rfl)
theorem dX4_next_70 : decode cX4_next 70 = .ok (.dup, 1) := dk_89 (dk_at dksX4_next_2 22 rfl rfl)
theorem dX4_next_71 : decode cX4_next 71 = .ok (.getfield 26, 3) := dk_180 0 26 (dk_at dksX4_next_3 0 rfl rfl)
theorem dX4_next_74 : decode cX4_next 74 = .ok (.iconst 1, 1) := dk_4 (dk_at dksX4_next_3 3 rfl rfl)
theorem dX4_next_75 : decode cX4_next 75 = .ok (.iadd, 1) := dk_96 (dk_at dksX4_next_3 4 rfl rfl)
theorem dX4_next_76 : decode cX4_next 76 = .ok (.putfield 26, 3) := dk_181 0 26 (dk_at dksX4_next_3 5 rfl rfl)
theorem dX4_next_79 : decode cX4_next 79 = .ok (.goto (-17), 3) := dk_167 255 239 (dk_at dksX4_next_3 8 rfl rfl)
theorem dX4_next_82 : decode cX4_next 82 = .ok (.aload_n 0, 1) := dk_42 (dk_at dksX4_next_3 11 rfl rfl)
theorem dX4_next_83 : decode cX4_next 83 = .ok (.iconst 1, 1) := dk_4 (dk_at dksX4_next_3 12 rfl rfl)
theorem dX4_next_84 : decode cX4_next 84 = .ok (.putfield 44, 3) := dk_181 0 44 (dk_at dksX4_next_3 13 rfl rfl)
theorem dX4_next_87 : decode cX4_next 87 = .ok (.goto 96, 3) := dk_167 0 96 (dk_at dksX4_next_3 16 rfl rfl)
theorem dX4_next_90 : decode cX4_next 90 = .ok (.aload_n 0, 1) := dk_42 (dk_at dksX4_next_3 19 rfl rfl)
theorem dX4_next_91 : decode cX4_next 91 = .ok (.invokevirtual 51, 3) := dk_182 0 51 (dk_at dksX4_next_3 20 rfl rfl)
theorem dX4_next_94 : decode cX4_next 94 = .ok (.ifCond .eq 61, 3) := dk_153 0 61 (dk_at dksX4_next_4 0 rfl rfl)
theorem dX4_next_97 : decode cX4_next 97 = .ok (.aload_n 0, 1) := dk_42 (dk_at dksX4_next_4 3 rfl rfl)
theorem dX4_next_98 : decode cX4_next 98 = .ok (.iconst 0, 1) := dk_3 (dk_at dksX4_next_4 4 rfl rfl)
theorem dX4_next_99 : decode cX4_next 99 = .ok (.putfield 54, 3) := dk_181 0 54 (dk_at dksX4_next_4 5 rfl rfl)
theorem dX4_next_102 : decode cX4_next 102 = .ok (.aload_n 0, 1) := dk_42 (dk_at dksX4_next_4 8 rfl rfl)
theorem dX4_next_103 : decode cX4_next 103 = .ok (.invokevirtual 51, 3) := dk_182 0 51 (dk_at dksX4_next_4 9 rfl rfl)
theorem dX4_next_106 : decode cX4_next 106 = .ok (.ifCond .eq 41, 3) := dk_153 0 41 (dk_at dksX4_next_4 12 rfl rfl)
theorem dX4_next_109 : decode cX4_next 109 = .ok (.aload_n 0, 1) := dk_42 (dk_at dksX4_next_4 15 rfl rfl)
theorem dX4_next_110 : decode cX4_next 110 = .ok (.sipush 10000, 3) := dk_17 39 16 (dk_at dksX4_next_4 16 rfl rfl)
theorem dX4_next_113 : decode cX4_next 113 = .ok (.bipush 10, 2) := dk_16 10 (dk_at dksX4_next_4 19 rfl rfl)
theorem dX4_next_115 : decode cX4_next 115 = .ok (.aload_n 0, 1) := dk_42 (dk_at dksX4_next_4 21 rfl rfl)
theorem dX4_next_116 : decode cX4_next 116 = .ok (.getfield 54, 3) := dk_180 0 54 (dk_at dksX4_next_5 0 rfl rfl)
theorem dX4_next_119 : decode cX4_next 119 = .ok (.imul, 1) := dk_104 (dk_at dksX4_next_5 3 rfl rfl)
theorem dX4_next_120 : decode cX4_next 120 = .ok (.aload_n 0, 1) := dk_42 (dk_at dksX4_next_5 4 rfl rfl)
theorem dX4_next_121 : decode cX4_next 121 = .ok (.invokevirtual 33, 3) := dk_182 0 33 (dk_at dksX4_next_5 5 rfl rfl)
theorem dX4_next_124 : decode cX4_next 124 = .ok (.iadd, 1) := dk_96 (dk_at dksX4_next_5 8 rfl rfl)
theorem dX4_next_125 : decode cX4_next 125 = .ok (.bipush 48, 2) := dk_16 48 (dk_at dksX4_next_5 9 rfl rfl)
theorem dX4_next_127 : decode cX4_next 127 = .ok (.isub, 1) := dk_100 (dk_at dksX4_next_5 11 rfl rfl)
theorem dX4_next_128 : decode cX4_next 128 = .ok (.invokestatic 57, 3) := dk_184 0 57 (dk_at dksX4_next_5 12 rfl rfl)
theorem dX4_next_131 : decode cX4_next 131 = .ok (.putfield 54, 3) := dk_181 0 54 (dk_at dksX4_next_5 15 rfl rfl)
theorem dX4_next_134 : decode cX4_next 134 = .ok (.aload_n 0, 1) := dk_42 (dk_at dksX4_next_5 18 rfl rfl)
theorem dX4_next_135 : decode cX4_next 135 = .ok (.dup, 1) := dk_89 (dk_at dksX4_next_5 19 rfl rfl)
theorem dX4_next_136 : decode cX4_next 136 = .ok (.getfield 26, 3) := dk_180 0 26 (dk_at dksX4_next_5 20 rfl rfl)
theorem dX4_next_139 : decode cX4_next 139 = .ok (.iconst 1, 1) := dk_4 (dk_at dksX4_next_5 23 rfl rfl)
theorem dX4_next_140 : decode cX4_next 140 = .ok (.iadd, 1) := dk_96 (dk_at dksX4_next_6 0 rfl rfl)
theorem dX4_next_141 : decode cX4_next 141 = .ok (.putfield 26, 3) := dk_181 0 26 (dk_at dksX4_next_6 1 rfl rfl)
theorem dX4_next_144 : decode cX4_next 144 = .ok (.goto (-42), 3) := dk_167 255 214 (dk_at dksX4_next_6 4 rfl rfl)
theorem dX4_next_147 : decode cX4_next 147 = .ok (.aload_n 0, 1) := dk_42 (dk_at dksX4_next_6 7 rfl rfl)
theorem dX4_next_148 : decode cX4_next 148 = .ok (.iconst 2, 1) := dk_5 (dk_at dksX4_next_6 8 rfl rfl)
theorem dX4_next_149 : decode cX4_next 149 = .ok (.putfield 44, 3) := dk_181 0 44 (dk_at dksX4_next_6 9 rfl rfl)
theorem dX4_next_152 : decode cX4_next 152 = .ok (.goto 31, 3) := dk_167 0 31 (dk_at dksX4_next_6 12 rfl rfl)
theorem dX4_next_155 : decode cX4_next 155 = .ok (.aload_n 0, 1) := dk_42 (dk_at dksX4_next_6 15 rfl rfl)
theorem dX4_next_156 : decode cX4_next 156 = .ok (.aload_n 0, 1) := dk_42 (dk_at dksX4_next_6 16 rfl rfl)
theorem dX4_next_157 : decode cX4_next 157 = .ok (.invokevirtual 33, 3) := dk_182 0 33 (dk_at dksX4_next_6 17 rfl rfl)
theorem dX4_next_160 : decode cX4_next 160 = .ok (.bipush 59, 2) := dk_16 59 (dk_at dksX4_next_6 20 rfl rfl)
theorem dX4_next_162 : decode cX4_next 162 = .ok (.if_icmp .ne 7, 3) := dk_160 0 7 (dk_at dksX4_next_7 0 rfl rfl)
theorem dX4_next_165 : decode cX4_next 165 = .ok (.iconst 3, 1) := dk_6 (dk_at dksX4_next_7 3 rfl rfl)
theorem dX4_next_166 : decode cX4_next 166 = .ok (.goto 4, 3) := dk_167 0 4 (dk_at dksX4_next_7 4 rfl rfl)
theorem dX4_next_169 : decode cX4_next 169 = .ok (.iconst 4, 1) := dk_7 (dk_at dksX4_next_7 7 rfl rfl)
theorem dX4_next_170 : decode cX4_next 170 = .ok (.putfield 44, 3) := dk_181 0 44 (dk_at dksX4_next_7 8 rfl rfl)
theorem dX4_next_173 : decode cX4_next 173 = .ok (.aload_n 0, 1) := dk_42 (dk_at dksX4_next_7 11 rfl rfl)
theorem dX4_next_174 : decode cX4_next 174 = .ok (.dup, 1) := dk_89 (dk_at dksX4_next_7 12 rfl rfl)
theorem dX4_next_175 : decode cX4_next 175 = .ok (.getfield 26, 3) := dk_180 0 26 (dk_at dksX4_next_7 13 rfl rfl)
theorem dX4_next_178 : decode cX4_next 178 = .ok (.iconst 1, 1) := dk_4 (dk_at dksX4_next_7 16 rfl rfl)
theorem dX4_next_179 : decode cX4_next 179 = .ok (.iadd, 1) := dk_96 (dk_at dksX4_next_7 17 rfl rfl)
theorem dX4_next_180 : decode cX4_next 180 = .ok (.putfield 26, 3) := dk_181 0 26 (dk_at dksX4_next_7 18 rfl rfl)
theorem dX4_next_183 : decode cX4_next 183 = .ok (.aload_n 0, 1) := dk_42 (dk_at dksX4_next_7 21 rfl rfl)
theorem dX4_next_184 : decode cX4_next 184 = .ok (.aload_n 0, 1) := dk_42 (dk_at dksX4_next_7 22 rfl rfl)
theorem dX4_next_185 : decode cX4_next 185 = .ok (.getfield 26, 3) := dk_180 0 26 (dk_at dksX4_next_8 0 rfl rfl)
theorem dX4_next_188 : decode cX4_next 188 = .ok (.putfield 63, 3) := dk_181 0 63 (dk_at dksX4_next_8 3 rfl rfl)
theorem dX4_next_191 : decode cX4_next 191 = .ok (.return_, 1) := dk_177 (dk_at dksX4_next_8 6 rfl rfl)
def dkwX4_here_1 : List UInt8 := [17, 0, 255, 126, 167, 0, 4, 2, 172]
abbrev dktX4_here_1 : List UInt8 := dkwX4_here_1 ++ []
def dkwX4_here_0 : List UInt8 := [42, 180, 0, 26, 42, 180, 0, 22, 162, 0, 22, 42, 180, 0, 3, 180, 0, 29, 42, 180, 0, 26, 51]
abbrev dktX4_here_0 : List UInt8 := dkwX4_here_0 ++ dktX4_here_1
theorem dksX4_here_0 : cX4_here.data.toList.drop 0 = dktX4_here_0 := by decide +kernel
theorem dksX4_here_1 : cX4_here.data.toList.drop 23 = dktX4_here_1 := dk_seg dksX4_here_0 23 rfl rfl
theorem dX4_here_0 : decode cX4_here 0 = .ok (.aload_n 0, 1) := dk_42 (dk_at dksX4_here_0 0 rfl rfl)
theorem dX4_here_1 : decode cX4_here 1 = .ok (.getfield 26, 3) := dk_180 0 26 (dk_at dksX4_here_0 1 rfl rfl)
theorem dX4_here_4 : decode cX4_here 4 = .ok (.aload_n 0, 1) := dk_42 (dk_at dksX4_here_0 4 rfl rfl)
theorem dX4_here_5 : decode cX4_here 5 = .ok (.getfield 22, 3) := dk_180 0 22 (dk_at dksX4_here_0 5 rfl rfl)
theorem dX4_here_8 : decode cX4_here 8 = .ok (.if_icmp .ge 22, 3) := dk_162 0 22 (dk_at dksX4_here_0 8 rfl rfl)
theorem dX4_here_11 : decode cX4_here 11 = .ok (.aload_n 0, 1) := dk_42 (dk_at dksX4_here_0 11 rfl rfl)
theorem dX4_here_12 : decode cX4_here 12 = .ok (.getfield 3, 3) := dk_180 0 3 (dk_at dksX4_here_0 12 rfl rfl)
theorem dX4_here_15 : decode cX4_here 15 = .ok (.getfield 29, 3) := dk_180 0 29 (dk_at dksX4_here_0 15 rfl rfl)
theorem dX4_here_18 : decode cX4_here 18 = .ok (.aload_n 0, 1) := dk_42 (dk_at dksX4_here_0 18 rfl rfl)
theorem dX4_here_19 : decode cX4_here 19 = .ok (.getfield 26, 3) := dk_180 0 26 (dk_at dksX4_here_0 19 rfl rfl)
theorem dX4_here_22 : decode cX4_here 22 = .ok (.baload, 1) := dk_51 (dk_at dksX4_here_0 22 rfl rfl)
theorem dX4_here_23 : decode cX4_here 23 = .ok (.sipush 255, 3) := dk_17 0 255 (dk_at dksX4_here_1 0 rfl rfl)
theorem dX4_here_26 : decode cX4_here 26 = .ok (.iand, 1) := dk_126 (dk_at dksX4_here_1 3 rfl rfl)
theorem dX4_here_27 : decode cX4_here 27 = .ok (.goto 4, 3) := dk_167 0 4 (dk_at dksX4_here_1 4 rfl rfl)
theorem dX4_here_30 : decode cX4_here 30 = .ok (.iconst (-1), 1) := dk_2 (dk_at dksX4_here_1 7 rfl rfl)
theorem dX4_here_31 : decode cX4_here 31 = .ok (.ireturn, 1) := dk_172 (dk_at dksX4_here_1 8 rfl rfl)
def dkwX4_isLetter_0 : List UInt8 := [42, 182, 0, 33, 16, 97, 16, 122, 184, 0, 37, 172]
abbrev dktX4_isLetter_0 : List UInt8 := dkwX4_isLetter_0 ++ []
theorem dksX4_isLetter_0 : cX4_isLetter.data.toList.drop 0 = dktX4_isLetter_0 := by decide +kernel
theorem dX4_isLetter_0 : decode cX4_isLetter 0 = .ok (.aload_n 0, 1) := dk_42 (dk_at dksX4_isLetter_0 0 rfl rfl)
theorem dX4_isLetter_1 : decode cX4_isLetter 1 = .ok (.invokevirtual 33, 3) := dk_182 0 33 (dk_at dksX4_isLetter_0 1 rfl rfl)
theorem dX4_isLetter_4 : decode cX4_isLetter 4 = .ok (.bipush 97, 2) := dk_16 97 (dk_at dksX4_isLetter_0 4 rfl rfl)
theorem dX4_isLetter_6 : decode cX4_isLetter 6 = .ok (.bipush 122, 2) := dk_16 122 (dk_at dksX4_isLetter_0 6 rfl rfl)
theorem dX4_isLetter_8 : decode cX4_isLetter 8 = .ok (.invokestatic 37, 3) := dk_184 0 37 (dk_at dksX4_isLetter_0 8 rfl rfl)
theorem dX4_isLetter_11 : decode cX4_isLetter 11 = .ok (.ireturn, 1) := dk_172 (dk_at dksX4_isLetter_0 11 rfl rfl)
def dkwX4_isDigit_0 : List UInt8 := [42, 182, 0, 33, 16, 48, 16, 57, 184, 0, 37, 172]
abbrev dktX4_isDigit_0 : List UInt8 := dkwX4_isDigit_0 ++ []
theorem dksX4_isDigit_0 : cX4_isDigit.data.toList.drop 0 = dktX4_isDigit_0 := by decide +kernel
theorem dX4_isDigit_0 : decode cX4_isDigit 0 = .ok (.aload_n 0, 1) := dk_42 (dk_at dksX4_isDigit_0 0 rfl rfl)
theorem dX4_isDigit_1 : decode cX4_isDigit 1 = .ok (.invokevirtual 33, 3) := dk_182 0 33 (dk_at dksX4_isDigit_0 1 rfl rfl)
theorem dX4_isDigit_4 : decode cX4_isDigit 4 = .ok (.bipush 48, 2) := dk_16 48 (dk_at dksX4_isDigit_0 4 rfl rfl)
theorem dX4_isDigit_6 : decode cX4_isDigit 6 = .ok (.bipush 57, 2) := dk_16 57 (dk_at dksX4_isDigit_0 6 rfl rfl)
theorem dX4_isDigit_8 : decode cX4_isDigit 8 = .ok (.invokestatic 37, 3) := dk_184 0 37 (dk_at dksX4_isDigit_0 8 rfl rfl)
theorem dX4_isDigit_11 : decode cX4_isDigit 11 = .ok (.ireturn, 1) := dk_172 (dk_at dksX4_isDigit_0 11 rfl rfl)
def dkwX4_line_9 : List UInt8 := [3, 4, 182, 0, 87, 42, 182, 0, 79, 177]
abbrev dktX4_line_9 : List UInt8 := dkwX4_line_9 ++ []
def dkwX4_line_8 : List UInt8 := [182, 0, 182, 4, 182, 0, 87, 42, 182, 0, 185, 42, 42, 180, 0, 44, 6, 160, 0, 7, 4, 167, 0, 4]
abbrev dktX4_line_8 : List UInt8 := dkwX4_line_8 ++ dktX4_line_9
def dkwX4_line_7 : List UInt8 := [167, 0, 34, 42, 18, 178, 182, 0, 75, 153, 0, 10, 42, 182, 0, 179, 167, 0, 18, 42, 42, 18, 181]
abbrev dktX4_line_7 : List UInt8 := dkwX4_line_7 ++ dktX4_line_8
def dkwX4_line_6 : List UInt8 := [180, 0, 18, 180, 0, 111, 182, 0, 133, 79, 42, 180, 0, 18, 89, 180, 0, 173, 4, 96, 181, 0, 173]
abbrev dktX4_line_6 : List UInt8 := dkwX4_line_6 ++ dktX4_line_7
def dkwX4_line_5 : List UInt8 := [182, 0, 87, 42, 182, 0, 79, 42, 180, 0, 18, 180, 0, 176, 42, 180, 0, 18, 180, 0, 173, 42, 42]
abbrev dktX4_line_5 : List UInt8 := dkwX4_line_5 ++ dktX4_line_6
def dkwX4_line_4 : List UInt8 := [182, 0, 75, 153, 0, 70, 42, 42, 180, 0, 18, 180, 0, 173, 6, 162, 0, 7, 4, 167, 0, 4, 3, 5]
abbrev dktX4_line_4 : List UInt8 := dkwX4_line_4 ++ dktX4_line_5
def dkwX4_line_3 : List UInt8 := [167, 0, 126, 42, 18, 167, 182, 0, 75, 153, 0, 10, 42, 182, 0, 169, 167, 0, 110, 42, 18, 171]
abbrev dktX4_line_3 : List UInt8 := dkwX4_line_3 ++ dktX4_line_4
def dkwX4_line_2 : List UInt8 := [180, 0, 111, 42, 3, 16, 99, 182, 0, 147, 79, 42, 180, 0, 18, 89, 180, 0, 111, 4, 96, 181, 0, 111]
abbrev dktX4_line_2 : List UInt8 := dkwX4_line_2 ++ dktX4_line_3
def dkwX4_line_1 : List UInt8 := [167, 0, 4, 3, 5, 182, 0, 87, 42, 182, 0, 79, 42, 180, 0, 18, 180, 0, 164, 42, 180, 0, 18]
abbrev dktX4_line_1 : List UInt8 := dkwX4_line_1 ++ dktX4_line_2
def dkwX4_line_0 : List UInt8 := [42, 18, 163, 182, 0, 75, 153, 0, 67, 42, 42, 180, 0, 18, 180, 0, 111, 16, 8, 162, 0, 7, 4]
abbrev dktX4_line_0 : List UInt8 := dkwX4_line_0 ++ dktX4_line_1
theorem dksX4_line_0 : cX4_line.data.toList.drop 0 = dktX4_line_0 := by decide +kernel
theorem dksX4_line_1 : cX4_line.data.toList.drop 23 = dktX4_line_1 := dk_seg dksX4_line_0 23 rfl rfl
theorem dksX4_line_2 : cX4_line.data.toList.drop 46 = dktX4_line_2 := dk_seg dksX4_line_1 23 rfl rfl
theorem dksX4_line_3 : cX4_line.data.toList.drop 70 = dktX4_line_3 := dk_seg dksX4_line_2 24 rfl rfl
theorem dksX4_line_4 : cX4_line.data.toList.drop 92 = dktX4_line_4 := dk_seg dksX4_line_3 22 rfl rfl
theorem dksX4_line_5 : cX4_line.data.toList.drop 116 = dktX4_line_5 := dk_seg dksX4_line_4 24 rfl rfl
theorem dksX4_line_6 : cX4_line.data.toList.drop 139 = dktX4_line_6 := dk_seg dksX4_line_5 23 rfl rfl
theorem dksX4_line_7 : cX4_line.data.toList.drop 162 = dktX4_line_7 := dk_seg dksX4_line_6 23 rfl rfl
theorem dksX4_line_8 : cX4_line.data.toList.drop 185 = dktX4_line_8 := dk_seg dksX4_line_7 23 rfl rfl
theorem dksX4_line_9 : cX4_line.data.toList.drop 209 = dktX4_line_9 := dk_seg dksX4_line_8 24 rfl rfl
theorem dX4_line_0 : decode cX4_line 0 = .ok (.aload_n 0, 1) := dk_42 (dk_at dksX4_line_0 0 rfl rfl)
theorem dX4_line_1 : decode cX4_line 1 = .ok (.ldc 163, 2) := dk_18 163 (dk_at dksX4_line_0 1 rfl rfl)
theorem dX4_line_3 : decode cX4_line 3 = .ok (.invokevirtual 75, 3) := dk_182 0 75 (dk_at dksX4_line_0 3 rfl rfl)
theorem dX4_line_6 : decode cX4_line 6 = .ok (.ifCond .eq 67, 3) := dk_153 0 67 (dk_at dksX4_line_0 6 rfl rfl)
theorem dX4_line_9 : decode cX4_line 9 = .ok (.aload_n 0, 1) := dk_42 (dk_at dksX4_line_0 9 rfl rfl)
theorem dX4_line_10 : decode cX4_line 10 = .ok (.aload_n 0, 1) := dk_42 (dk_at dksX4_line_0 10 rfl rfl)
theorem dX4_line_11 : decode cX4_line 11 = .ok (.getfield 18, 3) := dk_180 0 18 (dk_at dksX4_line_0 11 rfl rfl)
theorem dX4_line_14 : decode cX4_line 14 = .ok (.getfield 111, 3) := dk_180 0 111 (dk_at dksX4_line_0 14 rfl rfl)
theorem dX4_line_17 : decode cX4_line 17 = .ok (.bipush 8, 2) := dk_16 8 (dk_at dksX4_line_0 17 rfl rfl)
theorem dX4_line_19 : decode cX4_line 19 = .ok (.if_icmp .ge 7, 3) := dk_162 0 7 (dk_at dksX4_line_0 19 rfl rfl)
theorem dX4_line_22 : decode cX4_line 22 = .ok (.iconst 1, 1) := dk_4 (dk_at dksX4_line_0 22 rfl rfl)
theorem dX4_line_23 : decode cX4_line 23 = .ok (.goto 4, 3) := dk_167 0 4 (dk_at dksX4_line_1 0 rfl rfl)
theorem dX4_line_26 : decode cX4_line 26 = .ok (.iconst 0, 1) := dk_3 (dk_at dksX4_line_1 3 rfl rfl)
theorem dX4_line_27 : decode cX4_line 27 = .ok (.iconst 2, 1) := dk_5 (dk_at dksX4_line_1 4 rfl rfl)
theorem dX4_line_28 : decode cX4_line 28 = .ok (.invokevirtual 87, 3) := dk_182 0 87 (dk_at dksX4_line_1 5 rfl rfl)
theorem dX4_line_31 : decode cX4_line 31 = .ok (.aload_n 0, 1) := dk_42 (dk_at dksX4_line_1 8 rfl rfl)
theorem dX4_line_32 : decode cX4_line 32 = .ok (.invokevirtual 79, 3) := dk_182 0 79 (dk_at dksX4_line_1 9 rfl rfl)
theorem dX4_line_35 : decode cX4_line 35 = .ok (.aload_n 0, 1) := dk_42 (dk_at dksX4_line_1 12 rfl rfl)
theorem dX4_line_36 : decode cX4_line 36 = .ok (.getfield 18, 3) := dk_180 0 18 (dk_at dksX4_line_1 13 rfl rfl)
theorem dX4_line_39 : decode cX4_line 39 = .ok (.getfield 164, 3) := dk_180 0 164 (dk_at dksX4_line_1 16 rfl rfl)
theorem dX4_line_42 : decode cX4_line 42 = .ok (.aload_n 0, 1) := dk_42 (dk_at dksX4_line_1 19 rfl rfl)
theorem dX4_line_43 : decode cX4_line 43 = .ok (.getfield 18, 3) := dk_180 0 18 (dk_at dksX4_line_1 20 rfl rfl)
theorem dX4_line_46 : decode cX4_line 46 = .ok (.getfield 111, 3) := dk_180 0 111 (dk_at dksX4_line_2 0 rfl rfl)
theorem dX4_line_49 : decode cX4_line 49 = .ok (.aload_n 0, 1) := dk_42 (dk_at dksX4_line_2 3 rfl rfl)
theorem dX4_line_50 : decode cX4_line 50 = .ok (.iconst 0, 1) := dk_3 (dk_at dksX4_line_2 4 rfl rfl)
theorem dX4_line_51 : decode cX4_line 51 = .ok (.bipush 99, 2) := dk_16 99 (dk_at dksX4_line_2 5 rfl rfl)
theorem dX4_line_53 : decode cX4_line 53 = .ok (.invokevirtual 147, 3) := dk_182 0 147 (dk_at dksX4_line_2 7 rfl rfl)
theorem dX4_line_56 : decode cX4_line 56 = .ok (.iastore, 1) := dk_79 (dk_at dksX4_line_2 10 rfl rfl)
theorem dX4_line_57 : decode cX4_line 57 = .ok (.aload_n 0, 1) := dk_42 (dk_at dksX4_line_2 11 rfl rfl)
theorem dX4_line_58 : decode cX4_line 58 = .ok (.getfield 18, 3) := dk_180 0 18 (dk_at dksX4_line_2 12 rfl rfl)
theorem dX4_line_61 : decode cX4_line 61 = .ok (.dup, 1) := dk_89 (dk_at dksX4_line_2 15 rfl rfl)
theorem dX4_line_62 : decode cX4_line 62 = .ok (.getfield 111, 3) := dk_180 0 111 (dk_at dksX4_line_2 16 rfl rfl)
theorem dX4_line_65 : decode cX4_line 65 = .ok (.iconst 1, 1) := dk_4 (dk_at dksX4_line_2 19 rfl rfl)
theorem dX4_line_66 : decode cX4_line 66 = .ok (.iadd, 1) := dk_96 (dk_at dksX4_line_2 20 rfl rfl)
theorem dX4_line_67 : decode cX4_line 67 = .ok (.putfield 111, 3) := dk_181 0 111 (dk_at dksX4_line_2 21 rfl rfl)
theorem dX4_line_70 : decode cX4_line 70 = .ok (.goto 126, 3) := dk_167 0 126 (dk_at dksX4_line_3 0 rfl rfl)
theorem dX4_line_73 : decode cX4_line 73 = .ok (.aload_n 0, 1) := dk_42 (dk_at dksX4_line_3 3 rfl rfl)
theorem dX4_line_74 : decode cX4_line 74 = .ok (.ldc 167, 2) := dk_18 167 (dk_at dksX4_line_3 4 rfl rfl)
theorem dX4_line_76 : decode cX4_line 76 = .ok (.invokevirtual 75, 3) := dk_182 0 75 (dk_at dksX4_line_3 6 rfl rfl)
theorem dX4_line_79 : decode cX4_line 79 = .ok (.ifCond .eq 10, 3) := dk_153 0 10 (dk_at dksX4_line_3 9 rfl rfl)
theorem dX4_line_82 : decode cX4_line 82 = .ok (.aload_n 0, 1) := dk_42 (dk_at dksX4_line_3 12 rfl rfl)
theorem dX4_line_83 : decode cX4_line 83 = .ok (.invokevirtual 169, 3) := dk_182 0 169 (dk_at dksX4_line_3 13 rfl rfl)
theorem dX4_line_86 : decode cX4_line 86 = .ok (.goto 110, 3) := dk_167 0 110 (dk_at dksX4_line_3 16 rfl rfl)
theorem dX4_line_89 : decode cX4_line 89 = .ok (.aload_n 0, 1) := dk_42 (dk_at dksX4_line_3 19 rfl rfl)
theorem dX4_line_90 : decode cX4_line 90 = .ok (.ldc 171, 2) := dk_18 171 (dk_at dksX4_line_3 20 rfl rfl)
theorem dX4_line_92 : decode cX4_line 92 = .ok (.invokevirtual 75, 3) := dk_182 0 75 (dk_at dksX4_line_4 0 rfl rfl)
theorem dX4_line_95 : decode cX4_line 95 = .ok (.ifCond .eq 70, 3) := dk_153 0 70 (dk_at dksX4_line_4 3 rfl rfl)
theorem dX4_line_98 : decode cX4_line 98 = .ok (.aload_n 0, 1) := dk_42 (dk_at dksX4_line_4 6 rfl rfl)
theorem dX4_line_99 : decode cX4_line 99 = .ok (.aload_n 0, 1) := dk_42 (dk_at dksX4_line_4 7 rfl rfl)
theorem dX4_line_100 : decode cX4_line 100 = .ok (.getfield 18, 3) := dk_180 0 18 (dk_at dksX4_line_4 8 rfl rfl)
theorem dX4_line_103 : decode cX4_line 103 = .ok (.getfield 173, 3) := dk_180 0 173 (dk_at dksX4_line_4 11 rfl rfl)
theorem dX4_line_106 : decode cX4_line 106 = .ok (.iconst 3, 1) := dk_6 (dk_at dksX4_line_4 14 rfl rfl)
theorem dX4_line_107 : decode cX4_line 107 = .ok (.if_icmp .ge 7, 3) := dk_162 0 7 (dk_at dksX4_line_4 15 rfl rfl)
theorem dX4_line_110 : decode cX4_line 110 = .ok (.iconst 1, 1) := dk_4 (dk_at dksX4_line_4 18 rfl rfl)
theorem dX4_line_111 : decode cX4_line 111 = .ok (.goto 4, 3) := dk_167 0 4 (dk_at dksX4_line_4 19 rfl rfl)
theorem dX4_line_114 : decode cX4_line 114 = .ok (.iconst 0, 1) := dk_3 (dk_at dksX4_line_4 22 rfl rfl)
theorem dX4_line_115 : decode cX4_line 115 = .ok (.iconst 2, 1) := dk_5 (dk_at dksX4_line_4 23 rfl rfl)
theorem dX4_line_116 : decode cX4_line 116 = .ok (.invokevirtual 87, 3) := dk_182 0 87 (dk_at dksX4_line_5 0 rfl rfl)
theorem dX4_line_119 : decode cX4_line 119 = .ok (.aload_n 0, 1) := dk_42 (dk_at dksX4_line_5 3 rfl rfl)
theorem dX4_line_120 : decode cX4_line 120 = .ok (.invokevirtual 79, 3) := dk_182 0 79 (dk_at dksX4_line_5 4 rfl rfl)
theorem dX4_line_123 : decode cX4_line 123 = .ok (.aload_n 0, 1) := dk_42 (dk_at dksX4_line_5 7 rfl rfl)
theorem dX4_line_124 : decode cX4_line 124 = .ok (.getfield 18, 3) := dk_180 0 18 (dk_at dksX4_line_5 8 rfl rfl)
theorem dX4_line_127 : decode cX4_line 127 = .ok (.getfield 176, 3) := dk_180 0 176 (dk_at dksX4_line_5 11 rfl rfl)
theorem dX4_line_130 : decode cX4_line 130 = .ok (.aload_n 0, 1) := dk_42 (dk_at dksX4_line_5 14 rfl rfl)
theorem dX4_line_131 : decode cX4_line 131 = .ok (.getfield 18, 3) := dk_180 0 18 (dk_at dksX4_line_5 15 rfl rfl)
theorem dX4_line_134 : decode cX4_line 134 = .ok (.getfield 173, 3) := dk_180 0 173 (dk_at dksX4_line_5 18 rfl rfl)
theorem dX4_line_137 : decode cX4_line 137 = .ok (.aload_n 0, 1) := dk_42 (dk_at dksX4_line_5 21 rfl rfl)
theorem dX4_line_138 : decode cX4_line 138 = .ok (.aload_n 0, 1) := dk_42 (dk_at dksX4_line_5 22 rfl rfl)
theorem dX4_line_139 : decode cX4_line 139 = .ok (.getfield 18, 3) := dk_180 0 18 (dk_at dksX4_line_6 0 rfl rfl)
theorem dX4_line_142 : decode cX4_line 142 = .ok (.getfield 111, 3) := dk_180 0 111 (dk_at dksX4_line_6 3 rfl rfl)
theorem dX4_line_145 : decode cX4_line 145 = .ok (.invokevirtual 133, 3) := dk_182 0 133 (dk_at dksX4_line_6 6 rfl rfl)
theorem dX4_line_148 : decode cX4_line 148 = .ok (.iastore, 1) := dk_79 (dk_at dksX4_line_6 9 rfl rfl)
theorem dX4_line_149 : decode cX4_line 149 = .ok (.aload_n 0, 1) := dk_42 (dk_at dksX4_line_6 10 rfl rfl)
theorem dX4_line_150 : decode cX4_line 150 = .ok (.getfield 18, 3) := dk_180 0 18 (dk_at dksX4_line_6 11 rfl rfl)
theorem dX4_line_153 : decode cX4_line 153 = .ok (.dup, 1) := dk_89 (dk_at dksX4_line_6 14 rfl rfl)
theorem dX4_line_154 : decode cX4_line 154 = .ok (.getfield 173, 3) := dk_180 0 173 (dk_at dksX4_line_6 15 rfl rfl)
theorem dX4_line_157 : decode cX4_line 157 = .ok (.iconst 1, 1) := dk_4 (dk_at dksX4_line_6 18 rfl rfl)
theorem dX4_line_158 : decode cX4_line 158 = .ok (.iadd, 1) := dk_96 (dk_at dksX4_line_6 19 rfl rfl)
theorem dX4_line_159 : decode cX4_line 159 = .ok (.putfield 173, 3) := dk_181 0 173 (dk_at dksX4_line_6 20 rfl rfl)
theorem dX4_line_162 : decode cX4_line 162 = .ok (.goto 34, 3) := dk_167 0 34 (dk_at dksX4_line_7 0 rfl rfl)
theorem dX4_line_165 : decode cX4_line 165 = .ok (.aload_n 0, 1) := dk_42 (dk_at dksX4_line_7 3 rfl rfl)
theorem dX4_line_166 : decode cX4_line 166 = .ok (.ldc 178, 2) := dk_18 178 (dk_at dksX4_line_7 4 rfl rfl)
theorem dX4_line_168 : decode cX4_line 168 = .ok (.invokevirtual 75, 3) := dk_182 0 75 (dk_at dksX4_line_7 6 rfl rfl)
theorem dX4_line_171 : decode cX4_line 171 = .ok (.ifCond .eq 10, 3) := dk_153 0 10 (dk_at dksX4_line_7 9 rfl rfl)
theorem dX4_line_174 : decode cX4_line 174 = .ok (.aload_n 0, 1) := dk_42 (dk_at dksX4_line_7 12 rfl rfl)
theorem dX4_line_175 : decode cX4_line 175 = .ok (.invokevirtual 179, 3) := dk_182 0 179 (dk_at dksX4_line_7 13 rfl rfl)
theorem dX4_line_178 : decode cX4_line 178 = .ok (.goto 18, 3) := dk_167 0 18 (dk_at dksX4_line_7 16 rfl rfl)
theorem dX4_line_181 : decode cX4_line 181 = .ok (.aload_n 0, 1) := dk_42 (dk_at dksX4_line_7 19 rfl rfl)
theorem dX4_line_182 : decode cX4_line 182 = .ok (.aload_n 0, 1) := dk_42 (dk_at dksX4_line_7 20 rfl rfl)
theorem dX4_line_183 : decode cX4_line 183 = .ok (.ldc 181, 2) := dk_18 181 (dk_at dksX4_line_7 21 rfl rfl)
theorem dX4_line_185 : decode cX4_line 185 = .ok (.invokevirtual 182, 3) := dk_182 0 182 (dk_at dksX4_line_8 0 rfl rfl)
theorem dX4_line_188 : decode cX4_line 188 = .ok (.iconst 1, 1) := dk_4 (dk_at dksX4_line_8 3 rfl rfl)
theorem dX4_line_189 : decode cX4_line 189 = .ok (.invokevirtual 87, 3) := dk_182 0 87 (dk_at dksX4_line_8 4 rfl rfl)
theorem dX4_line_192 : decode cX4_line 192 = .ok (.aload_n 0, 1) := dk_42 (dk_at dksX4_line_8 7 rfl rfl)
theorem dX4_line_193 : decode cX4_line 193 = .ok (.invokevirtual 185, 3) := dk_182 0 185 (dk_at dksX4_line_8 8 rfl rfl)
theorem dX4_line_196 : decode cX4_line 196 = .ok (.aload_n 0, 1) := dk_42 (dk_at dksX4_line_8 11 rfl rfl)
theorem dX4_line_197 : decode cX4_line 197 = .ok (.aload_n 0, 1) := dk_42 (dk_at dksX4_line_8 12 rfl rfl)
theorem dX4_line_198 : decode cX4_line 198 = .ok (.getfield 44, 3) := dk_180 0 44 (dk_at dksX4_line_8 13 rfl rfl)
theorem dX4_line_201 : decode cX4_line 201 = .ok (.iconst 3, 1) := dk_6 (dk_at dksX4_line_8 16 rfl rfl)
theorem dX4_line_202 : decode cX4_line 202 = .ok (.if_icmp .ne 7, 3) := dk_160 0 7 (dk_at dksX4_line_8 17 rfl rfl)
theorem dX4_line_205 : decode cX4_line 205 = .ok (.iconst 1, 1) := dk_4 (dk_at dksX4_line_8 20 rfl rfl)
theorem dX4_line_206 : decode cX4_line 206 = .ok (.goto 4, 3) := dk_167 0 4 (dk_at dksX4_line_8 21 rfl rfl)
theorem dX4_line_209 : decode cX4_line 209 = .ok (.iconst 0, 1) := dk_3 (dk_at dksX4_line_9 0 rfl rfl)
theorem dX4_line_210 : decode cX4_line 210 = .ok (.iconst 1, 1) := dk_4 (dk_at dksX4_line_9 1 rfl rfl)
theorem dX4_line_211 : decode cX4_line 211 = .ok (.invokevirtual 87, 3) := dk_182 0 87 (dk_at dksX4_line_9 2 rfl rfl)
theorem dX4_line_214 : decode cX4_line 214 = .ok (.aload_n 0, 1) := dk_42 (dk_at dksX4_line_9 5 rfl rfl)
theorem dX4_line_215 : decode cX4_line 215 = .ok (.invokevirtual 79, 3) := dk_182 0 79 (dk_at dksX4_line_9 6 rfl rfl)
theorem dX4_line_218 : decode cX4_line 218 = .ok (.return_, 1) := dk_177 (dk_at dksX4_line_9 9 rfl rfl)
def dkwX4_is_2 : List UInt8 := [42, 180, 0, 41, 28, 96, 51, 159, 0, 5, 3, 172, 132, 2, 1, 167, 255, 221, 4, 172]
abbrev dktX4_is_2 : List UInt8 := dkwX4_is_2 ++ []
def dkwX4_is_1 : List UInt8 := [3, 172, 3, 61, 28, 43, 182, 0, 66, 162, 0, 33, 43, 28, 182, 0, 71, 42, 180, 0, 3, 180, 0, 29]
abbrev dktX4_is_1 : List UInt8 := dkwX4_is_1 ++ dktX4_is_2
def dkwX4_is_0 : List UInt8 := [42, 180, 0, 44, 4, 160, 0, 19, 43, 182, 0, 66, 42, 180, 0, 63, 42, 180, 0, 41, 100, 159, 0, 5]
abbrev dktX4_is_0 : List UInt8 := dkwX4_is_0 ++ dktX4_is_1
theorem dksX4_is_0 : cX4_is.data.toList.drop 0 = dktX4_is_0 := by decide +kernel
theorem dksX4_is_1 : cX4_is.data.toList.drop 24 = dktX4_is_1 := dk_seg dksX4_is_0 24 rfl rfl
theorem dksX4_is_2 : cX4_is.data.toList.drop 48 = dktX4_is_2 := dk_seg dksX4_is_1 24 rfl rfl
theorem dX4_is_0 : decode cX4_is 0 = .ok (.aload_n 0, 1) := dk_42 (dk_at dksX4_is_0 0 rfl rfl)
theorem dX4_is_1 : decode cX4_is 1 = .ok (.getfield 44, 3) := dk_180 0 44 (dk_at dksX4_is_0 1 rfl rfl)
theorem dX4_is_4 : decode cX4_is 4 = .ok (.iconst 1, 1) := dk_4 (dk_at dksX4_is_0 4 rfl rfl)
theorem dX4_is_5 : decode cX4_is 5 = .ok (.if_icmp .ne 19, 3) := dk_160 0 19 (dk_at dksX4_is_0 5 rfl rfl)
theorem dX4_is_8 : decode cX4_is 8 = .ok (.aload_n 1, 1) := dk_43 (dk_at dksX4_is_0 8 rfl rfl)
theorem dX4_is_9 : decode cX4_is 9 = .ok (.invokevirtual 66, 3) := dk_182 0 66 (dk_at dksX4_is_0 9 rfl rfl)
theorem dX4_is_12 : decode cX4_is 12 = .ok (.aload_n 0, 1) := dk_42 (dk_at dksX4_is_0 12 rfl rfl)
theorem dX4_is_13 : decode cX4_is 13 = .ok (.getfield 63, 3) := dk_180 0 63 (dk_at dksX4_is_0 13 rfl rfl)
theorem dX4_is_16 : decode cX4_is 16 = .ok (.aload_n 0, 1) := dk_42 (dk_at dksX4_is_0 16 rfl rfl)
theorem dX4_is_17 : decode cX4_is 17 = .ok (.getfield 41, 3) := dk_180 0 41 (dk_at dksX4_is_0 17 rfl rfl)
theorem dX4_is_20 : decode cX4_is 20 = .ok (.isub, 1) := dk_100 (dk_at dksX4_is_0 20 rfl rfl)
theorem dX4_is_21 : decode cX4_is 21 = .ok (.if_icmp .eq 5, 3) := dk_159 0 5 (dk_at dksX4_is_0 21 rfl rfl)
theorem dX4_is_24 : decode cX4_is 24 = .ok (.iconst 0, 1) := dk_3 (dk_at dksX4_is_1 0 rfl rfl)
theorem dX4_is_25 : decode cX4_is 25 = .ok (.ireturn, 1) := dk_172 (dk_at dksX4_is_1 1 rfl rfl)
theorem dX4_is_26 : decode cX4_is 26 = .ok (.iconst 0, 1) := dk_3 (dk_at dksX4_is_1 2 rfl rfl)
theorem dX4_is_27 : decode cX4_is 27 = .ok (.istore_n 2, 1) := dk_61 (dk_at dksX4_is_1 3 rfl rfl)
theorem dX4_is_28 : decode cX4_is 28 = .ok (.iload_n 2, 1) := dk_28 (dk_at dksX4_is_1 4 rfl rfl)
theorem dX4_is_29 : decode cX4_is 29 = .ok (.aload_n 1, 1) := dk_43 (dk_at dksX4_is_1 5 rfl rfl)
theorem dX4_is_30 : decode cX4_is 30 = .ok (.invokevirtual 66, 3) := dk_182 0 66 (dk_at dksX4_is_1 6 rfl rfl)
theorem dX4_is_33 : decode cX4_is 33 = .ok (.if_icmp .ge 33, 3) := dk_162 0 33 (dk_at dksX4_is_1 9 rfl rfl)
theorem dX4_is_36 : decode cX4_is 36 = .ok (.aload_n 1, 1) := dk_43 (dk_at dksX4_is_1 12 rfl rfl)
theorem dX4_is_37 : decode cX4_is 37 = .ok (.iload_n 2, 1) := dk_28 (dk_at dksX4_is_1 13 rfl rfl)
theorem dX4_is_38 : decode cX4_is 38 = .ok (.invokevirtual 71, 3) := dk_182 0 71 (dk_at dksX4_is_1 14 rfl rfl)
theorem dX4_is_41 : decode cX4_is 41 = .ok (.aload_n 0, 1) := dk_42 (dk_at dksX4_is_1 17 rfl rfl)
theorem dX4_is_42 : decode cX4_is 42 = .ok (.getfield 3, 3) := dk_180 0 3 (dk_at dksX4_is_1 18 rfl rfl)
theorem dX4_is_45 : decode cX4_is 45 = .ok (.getfield 29, 3) := dk_180 0 29 (dk_at dksX4_is_1 21 rfl rfl)
theorem dX4_is_48 : decode cX4_is 48 = .ok (.aload_n 0, 1) := dk_42 (dk_at dksX4_is_2 0 rfl rfl)
theorem dX4_is_49 : decode cX4_is 49 = .ok (.getfield 41, 3) := dk_180 0 41 (dk_at dksX4_is_2 1 rfl rfl)
theorem dX4_is_52 : decode cX4_is 52 = .ok (.iload_n 2, 1) := dk_28 (dk_at dksX4_is_2 4 rfl rfl)
theorem dX4_is_53 : decode cX4_is 53 = .ok (.iadd, 1) := dk_96 (dk_at dksX4_is_2 5 rfl rfl)
theorem dX4_is_54 : decode cX4_is 54 = .ok (.baload, 1) := dk_51 (dk_at dksX4_is_2 6 rfl rfl)
theorem dX4_is_55 : decode cX4_is 55 = .ok (.if_icmp .eq 5, 3) := dk_159 0 5 (dk_at dksX4_is_2 7 rfl rfl)
theorem dX4_is_58 : decode cX4_is 58 = .ok (.iconst 0, 1) := dk_3 (dk_at dksX4_is_2 10 rfl rfl)
theorem dX4_is_59 : decode cX4_is 59 = .ok (.ireturn, 1) := dk_172 (dk_at dksX4_is_2 11 rfl rfl)
theorem dX4_is_60 : decode cX4_is 60 = .ok (.iinc 2 1, 3) := dk_132 2 1 (dk_at dksX4_is_2 12 rfl rfl)
theorem dX4_is_63 : decode cX4_is 63 = .ok (.goto (-35), 3) := dk_167 255 221 (dk_at dksX4_is_2 15 rfl rfl)
theorem dX4_is_66 : decode cX4_is 66 = .ok (.iconst 1, 1) := dk_4 (dk_at dksX4_is_2 18 rfl rfl)
theorem dX4_is_67 : decode cX4_is 67 = .ok (.ireturn, 1) := dk_172 (dk_at dksX4_is_2 19 rfl rfl)
def dkwX4_want_0 : List UInt8 := [27, 154, 0, 12, 187, 0, 82, 89, 28, 183, 0, 84, 191, 177]
abbrev dktX4_want_0 : List UInt8 := dkwX4_want_0 ++ []
theorem dksX4_want_0 : cX4_want.data.toList.drop 0 = dktX4_want_0 := by decide +kernel
theorem dX4_want_0 : decode cX4_want 0 = .ok (.iload_n 1, 1) := dk_27 (dk_at dksX4_want_0 0 rfl rfl)
theorem dX4_want_1 : decode cX4_want 1 = .ok (.ifCond .ne 12, 3) := dk_154 0 12 (dk_at dksX4_want_0 1 rfl rfl)
theorem dX4_want_4 : decode cX4_want 4 = .ok (.new 82, 3) := dk_187 0 82 (dk_at dksX4_want_0 4 rfl rfl)
theorem dX4_want_7 : decode cX4_want 7 = .ok (.dup, 1) := dk_89 (dk_at dksX4_want_0 7 rfl rfl)
theorem dX4_want_8 : decode cX4_want 8 = .ok (.iload_n 2, 1) := dk_28 (dk_at dksX4_want_0 8 rfl rfl)
theorem dX4_want_9 : decode cX4_want 9 = .ok (.invokespecial 84, 3) := dk_183 0 84 (dk_at dksX4_want_0 9 rfl rfl)
theorem dX4_want_12 : decode cX4_want 12 = .ok (.athrow, 1) := dk_191 (dk_at dksX4_want_0 12 rfl rfl)
theorem dX4_want_13 : decode cX4_want 13 = .ok (.return_, 1) := dk_177 (dk_at dksX4_want_0 13 rfl rfl)
def dkwX4_number_2 : List UInt8 := [4, 167, 0, 4, 3, 5, 182, 0, 87, 42, 180, 0, 54, 62, 42, 182, 0, 79, 29, 172]
abbrev dktX4_number_2 : List UInt8 := dkwX4_number_2 ++ []
def dkwX4_number_1 : List UInt8 := [180, 0, 41, 100, 6, 163, 0, 23, 42, 180, 0, 54, 27, 161, 0, 15, 42, 180, 0, 54, 28, 163, 0, 7]
abbrev dktX4_number_1 : List UInt8 := dkwX4_number_1 ++ dktX4_number_2
def dkwX4_number_0 : List UInt8 := [42, 42, 180, 0, 44, 5, 160, 0, 7, 4, 167, 0, 4, 3, 4, 182, 0, 87, 42, 42, 180, 0, 63, 42]
abbrev dktX4_number_0 : List UInt8 := dkwX4_number_0 ++ dktX4_number_1
theorem dksX4_number_0 : cX4_number.data.toList.drop 0 = dktX4_number_0 := by decide +kernel
theorem dksX4_number_1 : cX4_number.data.toList.drop 24 = dktX4_number_1 := dk_seg dksX4_number_0 24 rfl rfl
theorem dksX4_number_2 : cX4_number.data.toList.drop 48 = dktX4_number_2 := dk_seg dksX4_number_1 24 rfl rfl
theorem dX4_number_0 : decode cX4_number 0 = .ok (.aload_n 0, 1) := dk_42 (dk_at dksX4_number_0 0 rfl rfl)
theorem dX4_number_1 : decode cX4_number 1 = .ok (.aload_n 0, 1) := dk_42 (dk_at dksX4_number_0 1 rfl rfl)
theorem dX4_number_2 : decode cX4_number 2 = .ok (.getfield 44, 3) := dk_180 0 44 (dk_at dksX4_number_0 2 rfl rfl)
theorem dX4_number_5 : decode cX4_number 5 = .ok (.iconst 2, 1) := dk_5 (dk_at dksX4_number_0 5 rfl rfl)
theorem dX4_number_6 : decode cX4_number 6 = .ok (.if_icmp .ne 7, 3) := dk_160 0 7 (dk_at dksX4_number_0 6 rfl rfl)
theorem dX4_number_9 : decode cX4_number 9 = .ok (.iconst 1, 1) := dk_4 (dk_at dksX4_number_0 9 rfl rfl)
theorem dX4_number_10 : decode cX4_number 10 = .ok (.goto 4, 3) := dk_167 0 4 (dk_at dksX4_number_0 10 rfl rfl)
theorem dX4_number_13 : decode cX4_number 13 = .ok (.iconst 0, 1) := dk_3 (dk_at dksX4_number_0 13 rfl rfl)
theorem dX4_number_14 : decode cX4_number 14 = .ok (.iconst 1, 1) := dk_4 (dk_at dksX4_number_0 14 rfl rfl)
theorem dX4_number_15 : decode cX4_number 15 = .ok (.invokevirtual 87, 3) := dk_182 0 87 (dk_at dksX4_number_0 15 rfl rfl)
theorem dX4_number_18 : decode cX4_number 18 = .ok (.aload_n 0, 1) := dk_42 (dk_at dksX4_number_0 18 rfl rfl)
theorem dX4_number_19 : decode cX4_number 19 = .ok (.aload_n 0, 1) := dk_42 (dk_at dksX4_number_0 19 rfl rfl)
theorem dX4_number_20 : decode cX4_number 20 = .ok (.getfield 63, 3) := dk_180 0 63 (dk_at dksX4_number_0 20 rfl rfl)
theorem dX4_number_23 : decode cX4_number 23 = .ok (.aload_n 0, 1) := dk_42 (dk_at dksX4_number_0 23 rfl rfl)
theorem dX4_number_24 : decode cX4_number 24 = .ok (.getfield 41, 3) := dk_180 0 41 (dk_at dksX4_number_1 0 rfl rfl)
theorem dX4_number_27 : decode cX4_number 27 = .ok (.isub, 1) := dk_100 (dk_at dksX4_number_1 3 rfl rfl)
theorem dX4_number_28 : decode cX4_number 28 = .ok (.iconst 3, 1) := dk_6 (dk_at dksX4_number_1 4 rfl rfl)
theorem dX4_number_29 : decode cX4_number 29 = .ok (.if_icmp .gt 23, 3) := dk_163 0 23 (dk_at dksX4_number_1 5 rfl rfl)
theorem dX4_number_32 : decode cX4_number 32 = .ok (.aload_n 0, 1) := dk_42 (dk_at dksX4_number_1 8 rfl rfl)
theorem dX4_number_33 : decode cX4_number 33 = .ok (.getfield 54, 3) := dk_180 0 54 (dk_at dksX4_number_1 9 rfl rfl)
theorem dX4_number_36 : decode cX4_number 36 = .ok (.iload_n 1, 1) := dk_27 (dk_at dksX4_number_1 12 rfl rfl)
theorem dX4_number_37 : decode cX4_number 37 = .ok (.if_icmp .lt 15, 3) := dk_161 0 15 (dk_at dksX4_number_1 13 rfl rfl)
theorem dX4_number_40 : decode cX4_number 40 = .ok (.aload_n 0, 1) := dk_42 (dk_at dksX4_number_1 16 rfl rfl)
theorem dX4_number_41 : decode cX4_number 41 = .ok (.getfield 54, 3) := dk_180 0 54 (dk_at dksX4_number_1 17 rfl rfl)
theorem dX4_number_44 : decode cX4_number 44 = .ok (.iload_n 2, 1) := dk_28 (dk_at dksX4_number_1 20 rfl rfl)
theorem dX4_number_45 : decode cX4_number 45 = .ok (.if_icmp .gt 7, 3) := dk_163 0 7 (dk_at dksX4_number_1 21 rfl rfl)
theorem dX4_number_48 : decode cX4_number 48 = .ok (.iconst 1, 1) := dk_4 (dk_at dksX4_number_2 0 rfl rfl)
theorem dX4_number_49 : decode cX4_number 49 = .ok (.goto 4, 3) := dk_167 0 4 (dk_at dksX4_number_2 1 rfl rfl)
theorem dX4_number_52 : decode cX4_number 52 = .ok (.iconst 0, 1) := dk_3 (dk_at dksX4_number_2 4 rfl rfl)
theorem dX4_number_53 : decode cX4_number 53 = .ok (.iconst 2, 1) := dk_5 (dk_at dksX4_number_2 5 rfl rfl)
theorem dX4_number_54 : decode cX4_number 54 = .ok (.invokevirtual 87, 3) := dk_182 0 87 (dk_at dksX4_number_2 6 rfl rfl)
theorem dX4_number_57 : decode cX4_number 57 = .ok (.aload_n 0, 1) := dk_42 (dk_at dksX4_number_2 9 rfl rfl)
theorem dX4_number_58 : decode cX4_number 58 = .ok (.getfield 54, 3) := dk_180 0 54 (dk_at dksX4_number_2 10 rfl rfl)
theorem dX4_number_61 : decode cX4_number 61 = .ok (.istore_n 3, 1) := dk_62 (dk_at dksX4_number_2 13 rfl rfl)
theorem dX4_number_62 : decode cX4_number 62 = .ok (.aload_n 0, 1) := dk_42 (dk_at dksX4_number_2 14 rfl rfl)
theorem dX4_number_63 : decode cX4_number 63 = .ok (.invokevirtual 79, 3) := dk_182 0 79 (dk_at dksX4_number_2 15 rfl rfl)
theorem dX4_number_66 : decode cX4_number 66 = .ok (.iload_n 3, 1) := dk_29 (dk_at dksX4_number_2 18 rfl rfl)
theorem dX4_number_67 : decode cX4_number 67 = .ok (.ireturn, 1) := dk_172 (dk_at dksX4_number_2 19 rfl rfl)
def dkwX4_lodger_5 : List UInt8 := [183, 0, 123, 185, 0, 126, 2, 0, 87, 177]
abbrev dktX4_lodger_5 : List UInt8 := dkwX4_lodger_5 ++ []
def dkwX4_lodger_4 : List UInt8 := [61, 28, 6, 159, 0, 7, 42, 182, 0, 79, 42, 180, 0, 18, 180, 0, 103, 187, 0, 121, 89, 27, 28]
abbrev dktX4_lodger_4 : List UInt8 := dkwX4_lodger_4 ++ dktX4_lodger_5
def dkwX4_lodger_3 : List UInt8 := [182, 0, 75, 153, 0, 7, 4, 167, 0, 17, 42, 18, 119, 182, 0, 75, 153, 0, 7, 5, 167, 0, 4, 6]
abbrev dktX4_lodger_3 : List UInt8 := dkwX4_lodger_3 ++ dktX4_lodger_4
def dkwX4_lodger_2 : List UInt8 := [27, 182, 0, 114, 2, 160, 0, 7, 4, 167, 0, 4, 3, 7, 182, 0, 87, 42, 182, 0, 79, 42, 18, 117]
abbrev dktX4_lodger_2 : List UInt8 := dkwX4_lodger_2 ++ dktX4_lodger_3
def dkwX4_lodger_1 : List UInt8 := [182, 0, 87, 42, 182, 0, 79, 42, 42, 180, 0, 18, 180, 0, 111, 182, 0, 91, 60, 42, 42, 180, 0, 18]
abbrev dktX4_lodger_1 : List UInt8 := dkwX4_lodger_1 ++ dktX4_lodger_2
def dkwX4_lodger_0 : List UInt8 := [42, 42, 180, 0, 18, 180, 0, 103, 185, 0, 107, 1, 0, 16, 6, 162, 0, 7, 4, 167, 0, 4, 3, 5]
abbrev dktX4_lodger_0 : List UInt8 := dkwX4_lodger_0 ++ dktX4_lodger_1
theorem dksX4_lodger_0 : cX4_lodger.data.toList.drop 0 = dktX4_lodger_0 := by decide +kernel
theorem dksX4_lodger_1 : cX4_lodger.data.toList.drop 24 = dktX4_lodger_1 := dk_seg dksX4_lodger_0 24 rfl rfl
theorem dksX4_lodger_2 : cX4_lodger.data.toList.drop 48 = dktX4_lodger_2 := dk_seg dksX4_lodger_1 24 rfl rfl
theorem dksX4_lodger_3 : cX4_lodger.data.toList.drop 72 = dktX4_lodger_3 := dk_seg dksX4_lodger_2 24 rfl rfl
theorem dksX4_lodger_4 : cX4_lodger.data.toList.drop 96 = dktX4_lodger_4 := dk_seg dksX4_lodger_3 24 rfl rfl
theorem dksX4_lodger_5 : cX4_lodger.data.toList.drop 119 = dktX4_lodger_5 := dk_seg dksX4_lodger_4 23 rfl rfl
theorem dX4_lodger_0 : decode cX4_lodger 0 = .ok (.aload_n 0, 1) := dk_42 (dk_at dksX4_lodger_0 0 rfl rfl)
theorem dX4_lodger_1 : decode cX4_lodger 1 = .ok (.aload_n 0, 1) := dk_42 (dk_at dksX4_lodger_0 1 rfl rfl)
theorem dX4_lodger_2 : decode cX4_lodger 2 = .ok (.getfield 18, 3) := dk_180 0 18 (dk_at dksX4_lodger_0 2 rfl rfl)
theorem dX4_lodger_5 : decode cX4_lodger 5 = .ok (.getfield 103, 3) := dk_180 0 103 (dk_at dksX4_lodger_0 5 rfl rfl)
theorem dX4_lodger_8 : decode cX4_lodger 8 = .ok (.invokeinterface 107 1, 5) := by decide +kernel
theorem dX4_lodger_13 : decode cX4_lodger 13 = .ok (.bipush 6, 2) := dk_16 6 (dk_at dksX4_lodger_0 13 rfl rfl)
theorem dX4_lodger_15 : decode cX4_lodger 15 = .ok (.if_icmp .ge 7, 3) := dk_162 0 7 (dk_at dksX4_lodger_0 15 rfl rfl)
theorem dX4_lodger_18 : decode cX4_lodger 18 = .ok (.iconst 1, 1) := dk_4 (dk_at dksX4_lodger_0 18 rfl rfl)
theorem dX4_lodger_19 : decode cX4_lodger 19 = .ok (.goto 4, 3) := dk_167 0 4 (dk_at dksX4_lodger_0 19 rfl rfl)
theorem dX4_lodger_22 : decode cX4_lodger 22 = .ok (.iconst 0, 1) := dk_3 (dk_at dksX4_lodger_0 22 rfl rfl)
theorem dX4_lodger_23 : decode cX4_lodger 23 = .ok (.iconst 2, 1) := dk_5 (dk_at dksX4_lodger_0 23 rfl rfl)
theorem dX4_lodger_24 : decode cX4_lodger 24 = .ok (.invokevirtual 87, 3) := dk_182 0 87 (dk_at dksX4_lodger_1 0 rfl rfl)
theorem dX4_lodger_27 : decode cX4_lodger 27 = .ok (.aload_n 0, 1) := dk_42 (dk_at dksX4_lodger_1 3 rfl rfl)
theorem dX4_lodger_28 : decode cX4_lodger 28 = .ok (.invokevirtual 79, 3) := dk_182 0 79 (dk_at dksX4_lodger_1 4 rfl rfl)
theorem dX4_lodger_31 : decode cX4_lodger 31 = .ok (.aload_n 0, 1) := dk_42 (dk_at dksX4_lodger_1 7 rfl rfl)
theorem dX4_lodger_32 : decode cX4_lodger 32 = .ok (.aload_n 0, 1) := dk_42 (dk_at dksX4_lodger_1 8 rfl rfl)
theorem dX4_lodger_33 : decode cX4_lodger 33 = .ok (.getfield 18, 3) := dk_180 0 18 (dk_at dksX4_lodger_1 9 rfl rfl)
theorem dX4_lodger_36 : decode cX4_lodger 36 = .ok (.getfield 111, 3) := dk_180 0 111 (dk_at dksX4_lodger_1 12 rfl rfl)
theorem dX4_lodger_39 : decode cX4_lodger 39 = .ok (.invokevirtual 91, 3) := dk_182 0 91 (dk_at dksX4_lodger_1 15 rfl rfl)
theorem dX4_lodger_42 : decode cX4_lodger 42 = .ok (.istore_n 1, 1) := dk_60 (dk_at dksX4_lodger_1 18 rfl rfl)
theorem dX4_lodger_43 : decode cX4_lodger 43 = .ok (.aload_n 0, 1) := dk_42 (dk_at dksX4_lodger_1 19 rfl rfl)
theorem dX4_lodger_44 : decode cX4_lodger 44 = .ok (.aload_n 0, 1) := dk_42 (dk_at dksX4_lodger_1 20 rfl rfl)
theorem dX4_lodger_45 : decode cX4_lodger 45 = .ok (.getfield 18, 3) := dk_180 0 18 (dk_at dksX4_lodger_1 21 rfl rfl)
theorem dX4_lodger_48 : decode cX4_lodger 48 = .ok (.iload_n 1, 1) := dk_27 (dk_at dksX4_lodger_2 0 rfl rfl)
theorem dX4_lodger_49 : decode cX4_lodger 49 = .ok (.invokevirtual 114, 3) := dk_182 0 114 (dk_at dksX4_lodger_2 1 rfl rfl)
theorem dX4_lodger_52 : decode cX4_lodger 52 = .ok (.iconst (-1), 1) := dk_2 (dk_at dksX4_lodger_2 4 rfl rfl)
theorem dX4_lodger_53 : decode cX4_lodger 53 = .ok (.if_icmp .ne 7, 3) := dk_160 0 7 (dk_at dksX4_lodger_2 5 rfl rfl)
theorem dX4_lodger_56 : decode cX4_lodger 56 = .ok (.iconst 1, 1) := dk_4 (dk_at dksX4_lodger_2 8 rfl rfl)
theorem dX4_lodger_57 : decode cX4_lodger 57 = .ok (.goto 4, 3) := dk_167 0 4 (dk_at dksX4_lodger_2 9 rfl rfl)
theorem dX4_lodger_60 : decode cX4_lodger 60 = .ok (.iconst 0, 1) := dk_3 (dk_at dksX4_lodger_2 12 rfl rfl)
theorem dX4_lodger_61 : decode cX4_lodger 61 = .ok (.iconst 4, 1) := dk_7 (dk_at dksX4_lodger_2 13 rfl rfl)
theorem dX4_lodger_62 : decode cX4_lodger 62 = .ok (.invokevirtual 87, 3) := dk_182 0 87 (dk_at dksX4_lodger_2 14 rfl rfl)
theorem dX4_lodger_65 : decode cX4_lodger 65 = .ok (.aload_n 0, 1) := dk_42 (dk_at dksX4_lodger_2 17 rfl rfl)
theorem dX4_lodger_66 : decode cX4_lodger 66 = .ok (.invokevirtual 79, 3) := dk_182 0 79 (dk_at dksX4_lodger_2 18 rfl rfl)
theorem dX4_lodger_69 : decode cX4_lodger 69 = .ok (.aload_n 0, 1) := dk_42 (dk_at dksX4_lodger_2 21 rfl rfl)
theorem dX4_lodger_70 : decode cX4_lodger 70 = .ok (.ldc 117, 2) := dk_18 117 (dk_at dksX4_lodger_2 22 rfl rfl)
theorem dX4_lodger_72 : decode cX4_lodger 72 = .ok (.invokevirtual 75, 3) := dk_182 0 75 (dk_at dksX4_lodger_3 0 rfl rfl)
theorem dX4_lodger_75 : decode cX4_lodger 75 = .ok (.ifCond .eq 7, 3) := dk_153 0 7 (dk_at dksX4_lodger_3 3 rfl rfl)
theorem dX4_lodger_78 : decode cX4_lodger 78 = .ok (.iconst 1, 1) := dk_4 (dk_at dksX4_lodger_3 6 rfl rfl)
theorem dX4_lodger_79 : decode cX4_lodger 79 = .ok (.goto 17, 3) := dk_167 0 17 (dk_at dksX4_lodger_3 7 rfl rfl)
theorem dX4_lodger_82 : decode cX4_lodger 82 = .ok (.aload_n 0, 1) := dk_42 (dk_at dksX4_lodger_3 10 rfl rfl)
theorem dX4_lodger_83 : decode cX4_lodger 83 = .ok (.ldc 119, 2) := dk_18 119 (dk_at dksX4_lodger_3 11 rfl rfl)
theorem dX4_lodger_85 : decode cX4_lodger 85 = .ok (.invokevirtual 75, 3) := dk_182 0 75 (dk_at dksX4_lodger_3 13 rfl rfl)
theorem dX4_lodger_88 : decode cX4_lodger 88 = .ok (.ifCond .eq 7, 3) := dk_153 0 7 (dk_at dksX4_lodger_3 16 rfl rfl)
theorem dX4_lodger_91 : decode cX4_lodger 91 = .ok (.iconst 2, 1) := dk_5 (dk_at dksX4_lodger_3 19 rfl rfl)
theorem dX4_lodger_92 : decode cX4_lodger 92 = .ok (.goto 4, 3) := dk_167 0 4 (dk_at dksX4_lodger_3 20 rfl rfl)
theorem dX4_lodger_95 : decode cX4_lodger 95 = .ok (.iconst 3, 1) := dk_6 (dk_at dksX4_lodger_3 23 rfl rfl)
theorem dX4_lodger_96 : decode cX4_lodger 96 = .ok (.istore_n 2, 1) := dk_61 (dk_at dksX4_lodger_4 0 rfl rfl)
theorem dX4_lodger_97 : decode cX4_lodger 97 = .ok (.iload_n 2, 1) := dk_28 (dk_at dksX4_lodger_4 1 rfl rfl)
theorem dX4_lodger_98 : decode cX4_lodger 98 = .ok (.iconst 3, 1) := dk_6 (dk_at dksX4_lodger_4 2 rfl rfl)
theorem dX4_lodger_99 : decode cX4_lodger 99 = .ok (.if_icmp .eq 7, 3) := dk_159 0 7 (dk_at dksX4_lodger_4 3 rfl rfl)
theorem dX4_lodger_102 : decode cX4_lodger 102 = .ok (.aload_n 0, 1) := dk_42 (dk_at dksX4_lodger_4 6 rfl rfl)
theorem dX4_lodger_103 : decode cX4_lodger 103 = .ok (.invokevirtual 79, 3) := dk_182 0 79 (dk_at dksX4_lodger_4 7 rfl rfl)
theorem dX4_lodger_106 : decode cX4_lodger 106 = .ok (.aload_n 0, 1) := dk_42 (dk_at dksX4_lodger_4 10 rfl rfl)
theorem dX4_lodger_107 : decode cX4_lodger 107 = .ok (.getfield 18, 3) := dk_180 0 18 (dk_at dksX4_lodger_4 11 rfl rfl)
theorem dX4_lodger_110 : decode cX4_lodger 110 = .ok (.getfield 103, 3) := dk_180 0 103 (dk_at dksX4_lodger_4 14 rfl rfl)
theorem dX4_lodger_113 : decode cX4_lodger 113 = .ok (.new 121, 3) := dk_187 0 121 (dk_at dksX4_lodger_4 17 rfl rfl)
theorem dX4_lodger_116 : decode cX4_lodger 116 = .ok (.dup, 1) := dk_89 (dk_at dksX4_lodger_4 20 rfl rfl)
theorem dX4_lodger_117 : decode cX4_lodger 117 = .ok (.iload_n 1, 1) := dk_27 (dk_at dksX4_lodger_4 21 rfl rfl)
theorem dX4_lodger_118 : decode cX4_lodger 118 = .ok (.iload_n 2, 1) := dk_28 (dk_at dksX4_lodger_4 22 rfl rfl)
theorem dX4_lodger_119 : decode cX4_lodger 119 = .ok (.invokespecial 123, 3) := dk_183 0 123 (dk_at dksX4_lodger_5 0 rfl rfl)
theorem dX4_lodger_122 : decode cX4_lodger 122 = .ok (.invokeinterface 126 2, 5) := by decide +kernel
theorem dX4_lodger_127 : decode cX4_lodger 127 = .ok (.pop, 1) := dk_87 (dk_at dksX4_lodger_5 8 rfl rfl)
theorem dX4_lodger_128 : decode cX4_lodger 128 = .ok (.return_, 1) := dk_177 (dk_at dksX4_lodger_5 9 rfl rfl)
def dkwX4_oneNow_2 : List UInt8 := [162, 0, 7, 4, 167, 0, 4, 3, 6, 182, 0, 87, 42, 180, 0, 54, 172]
abbrev dktX4_oneNow_2 : List UInt8 := dkwX4_oneNow_2 ++ []
def dkwX4_oneNow_1 : List UInt8 := [180, 0, 41, 100, 6, 163, 0, 7, 4, 167, 0, 4, 3, 5, 182, 0, 87, 42, 42, 180, 0, 54, 27]
abbrev dktX4_oneNow_1 : List UInt8 := dkwX4_oneNow_1 ++ dktX4_oneNow_2
def dkwX4_oneNow_0 : List UInt8 := [42, 42, 180, 0, 44, 5, 160, 0, 7, 4, 167, 0, 4, 3, 4, 182, 0, 87, 42, 42, 180, 0, 63, 42]
abbrev dktX4_oneNow_0 : List UInt8 := dkwX4_oneNow_0 ++ dktX4_oneNow_1
theorem dksX4_oneNow_0 : cX4_oneNow.data.toList.drop 0 = dktX4_oneNow_0 := by decide +kernel
theorem dksX4_oneNow_1 : cX4_oneNow.data.toList.drop 24 = dktX4_oneNow_1 := dk_seg dksX4_oneNow_0 24 rfl rfl
theorem dksX4_oneNow_2 : cX4_oneNow.data.toList.drop 47 = dktX4_oneNow_2 := dk_seg dksX4_oneNow_1 23 rfl rfl
theorem dX4_oneNow_0 : decode cX4_oneNow 0 = .ok (.aload_n 0, 1) := dk_42 (dk_at dksX4_oneNow_0 0 rfl rfl)
theorem dX4_oneNow_1 : decode cX4_oneNow 1 = .ok (.aload_n 0, 1) := dk_42 (dk_at dksX4_oneNow_0 1 rfl rfl)
theorem dX4_oneNow_2 : decode cX4_oneNow 2 = .ok (.getfield 44, 3) := dk_180 0 44 (dk_at dksX4_oneNow_0 2 rfl rfl)
theorem dX4_oneNow_5 : decode cX4_oneNow 5 = .ok (.iconst 2, 1) := dk_5 (dk_at dksX4_oneNow_0 5 rfl rfl)
theorem dX4_oneNow_6 : decode cX4_oneNow 6 = .ok (.if_icmp .ne 7, 3) := dk_160 0 7 (dk_at dksX4_oneNow_0 6 rfl rfl)
theorem dX4_oneNow_9 : decode cX4_oneNow 9 = .ok (.iconst 1, 1) := dk_4 (dk_at dksX4_oneNow_0 9 rfl rfl)
theorem dX4_oneNow_10 : decode cX4_oneNow 10 = .ok (.goto 4, 3) := dk_167 0 4 (dk_at dksX4_oneNow_0 10 rfl rfl)
theorem dX4_oneNow_13 : decode cX4_oneNow 13 = .ok (.iconst 0, 1) := dk_3 (dk_at dksX4_oneNow_0 13 rfl rfl)
theorem dX4_oneNow_14 : decode cX4_oneNow 14 = .ok (.iconst 1, 1) := dk_4 (dk_at dksX4_oneNow_0 14 rfl rfl)
theorem dX4_oneNow_15 : decode cX4_oneNow 15 = .ok (.invokevirtual 87, 3) := dk_182 0 87 (dk_at dksX4_oneNow_0 15 rfl rfl)
theorem dX4_oneNow_18 : decode cX4_oneNow 18 = .ok (.aload_n 0, 1) := dk_42 (dk_at dksX4_oneNow_0 18 rfl rfl)
theorem dX4_oneNow_19 : decode cX4_oneNow 19 = .ok (.aload_n 0, 1) := dk_42 (dk_at dksX4_oneNow_0 19 rfl rfl)
theorem dX4_oneNow_20 : decode cX4_oneNow 20 = .ok (.getfield 63, 3) := dk_180 0 63 (dk_at dksX4_oneNow_0 20 rfl rfl)
theorem dX4_oneNow_23 : decode cX4_oneNow 23 = .ok (.aload_n 0, 1) := dk_42 (dk_at dksX4_oneNow_0 23 rfl rfl)
theorem dX4_oneNow_24 : decode cX4_oneNow 24 = .ok (.getfield 41, 3) := dk_180 0 41 (dk_at dksX4_oneNow_1 0 rfl rfl)
theorem dX4_oneNow_27 : decode cX4_oneNow 27 = .ok (.isub, 1) := dk_100 (dk_at dksX4_oneNow_1 3 rfl rfl)
theorem dX4_oneNow_28 : decode cX4_oneNow 28 = .ok (.iconst 3, 1) := dk_6 (dk_at dksX4_oneNow_1 4 rfl rfl)
theorem dX4_oneNow_29 : decode cX4_oneNow 29 = .ok (.if_icmp .gt 7, 3) := dk_163 0 7 (dk_at dksX4_oneNow_1 5 rfl rfl)
theorem dX4_oneNow_32 : decode cX4_oneNow 32 = .ok (.iconst 1, 1) := dk_4 (dk_at dksX4_oneNow_1 8 rfl rfl)
theorem dX4_oneNow_33 : decode cX4_oneNow 33 = .ok (.goto 4, 3) := dk_167 0 4 (dk_at dksX4_oneNow_1 9 rfl rfl)
theorem dX4_oneNow_36 : decode cX4_oneNow 36 = .ok (.iconst 0, 1) := dk_3 (dk_at dksX4_oneNow_1 12 rfl rfl)
theorem dX4_oneNow_37 : decode cX4_oneNow 37 = .ok (.iconst 2, 1) := dk_5 (dk_at dksX4_oneNow_1 13 rfl rfl)
theorem dX4_oneNow_38 : decode cX4_oneNow 38 = .ok (.invokevirtual 87, 3) := dk_182 0 87 (dk_at dksX4_oneNow_1 14 rfl rfl)
theorem dX4_oneNow_41 : decode cX4_oneNow 41 = .ok (.aload_n 0, 1) := dk_42 (dk_at dksX4_oneNow_1 17 rfl rfl)
theorem dX4_oneNow_42 : decode cX4_oneNow 42 = .ok (.aload_n 0, 1) := dk_42 (dk_at dksX4_oneNow_1 18 rfl rfl)
theorem dX4_oneNow_43 : decode cX4_oneNow 43 = .ok (.getfield 54, 3) := dk_180 0 54 (dk_at dksX4_oneNow_1 19 rfl rfl)
theorem dX4_oneNow_46 : decode cX4_oneNow 46 = .ok (.iload_n 1, 1) := dk_27 (dk_at dksX4_oneNow_1 22 rfl rfl)
theorem dX4_oneNow_47 : decode cX4_oneNow 47 = .ok (.if_icmp .ge 7, 3) := dk_162 0 7 (dk_at dksX4_oneNow_2 0 rfl rfl)
theorem dX4_oneNow_50 : decode cX4_oneNow 50 = .ok (.iconst 1, 1) := dk_4 (dk_at dksX4_oneNow_2 3 rfl rfl)
theorem dX4_oneNow_51 : decode cX4_oneNow 51 = .ok (.goto 4, 3) := dk_167 0 4 (dk_at dksX4_oneNow_2 4 rfl rfl)
theorem dX4_oneNow_54 : decode cX4_oneNow 54 = .ok (.iconst 0, 1) := dk_3 (dk_at dksX4_oneNow_2 7 rfl rfl)
theorem dX4_oneNow_55 : decode cX4_oneNow 55 = .ok (.iconst 3, 1) := dk_6 (dk_at dksX4_oneNow_2 8 rfl rfl)
theorem dX4_oneNow_56 : decode cX4_oneNow 56 = .ok (.invokevirtual 87, 3) := dk_182 0 87 (dk_at dksX4_oneNow_2 9 rfl rfl)
theorem dX4_oneNow_59 : decode cX4_oneNow 59 = .ok (.aload_n 0, 1) := dk_42 (dk_at dksX4_oneNow_2 12 rfl rfl)
theorem dX4_oneNow_60 : decode cX4_oneNow 60 = .ok (.getfield 54, 3) := dk_180 0 54 (dk_at dksX4_oneNow_2 13 rfl rfl)
theorem dX4_oneNow_63 : decode cX4_oneNow 63 = .ok (.ireturn, 1) := dk_172 (dk_at dksX4_oneNow_2 16 rfl rfl)
def dkwX4_one_0 : List UInt8 := [42, 27, 182, 0, 91, 61, 42, 182, 0, 79, 28, 172]
abbrev dktX4_one_0 : List UInt8 := dkwX4_one_0 ++ []
theorem dksX4_one_0 : cX4_one.data.toList.drop 0 = dktX4_one_0 := by decide +kernel
theorem dX4_one_0 : decode cX4_one 0 = .ok (.aload_n 0, 1) := dk_42 (dk_at dksX4_one_0 0 rfl rfl)
theorem dX4_one_1 : decode cX4_one 1 = .ok (.iload_n 1, 1) := dk_27 (dk_at dksX4_one_0 1 rfl rfl)
theorem dX4_one_2 : decode cX4_one 2 = .ok (.invokevirtual 91, 3) := dk_182 0 91 (dk_at dksX4_one_0 2 rfl rfl)
theorem dX4_one_5 : decode cX4_one 5 = .ok (.istore_n 2, 1) := dk_61 (dk_at dksX4_one_0 5 rfl rfl)
theorem dX4_one_6 : decode cX4_one 6 = .ok (.aload_n 0, 1) := dk_42 (dk_at dksX4_one_0 6 rfl rfl)
theorem dX4_one_7 : decode cX4_one 7 = .ok (.invokevirtual 79, 3) := dk_182 0 79 (dk_at dksX4_one_0 7 rfl rfl)
theorem dX4_one_10 : decode cX4_one 10 = .ok (.iload_n 2, 1) := dk_28 (dk_at dksX4_one_0 10 rfl rfl)
theorem dX4_one_11 : decode cX4_one 11 = .ok (.ireturn, 1) := dk_172 (dk_at dksX4_one_0 11 rfl rfl)
def dkwX4_may_8 : List UInt8 := [181, 0, 130, 177]
abbrev dktX4_may_8 : List UInt8 := dkwX4_may_8 ++ []
def dkwX4_may_7 : List UInt8 := [46, 4, 28, 120, 128, 79, 132, 5, 1, 167, 255, 233, 42, 180, 0, 18, 89, 180, 0, 130, 4, 96]
abbrev dktX4_may_7 : List UInt8 := dkwX4_may_7 ++ dktX4_may_8
def dkwX4_may_6 : List UInt8 := [16, 23, 182, 0, 147, 54, 4, 29, 54, 5, 21, 5, 21, 4, 163, 0, 22, 43, 180, 0, 149, 21, 5, 92]
abbrev dktX4_may_6 : List UInt8 := dkwX4_may_6 ++ dktX4_may_7
def dkwX4_may_5 : List UInt8 := [7, 182, 0, 87, 42, 182, 0, 79, 16, 10, 29, 96, 61, 42, 3, 16, 23, 182, 0, 147, 62, 42, 29]
abbrev dktX4_may_5 : List UInt8 := dkwX4_may_5 ++ dktX4_may_6
def dkwX4_may_4 : List UInt8 := [180, 0, 18, 180, 0, 111, 182, 0, 91, 62, 42, 29, 43, 180, 0, 144, 159, 0, 7, 4, 167, 0, 4, 3]
abbrev dktX4_may_4 : List UInt8 := dkwX4_may_4 ++ dktX4_may_5
def dkwX4_may_3 : List UInt8 := [182, 0, 79, 167, 0, 57, 42, 42, 18, 143, 182, 0, 75, 4, 182, 0, 87, 42, 182, 0, 79, 42, 42]
abbrev dktX4_may_3 : List UInt8 := dkwX4_may_3 ++ dktX4_may_4
def dkwX4_may_2 : List UInt8 := [182, 0, 133, 185, 0, 136, 2, 0, 192, 0, 121, 76, 42, 182, 0, 140, 61, 28, 2, 159, 0, 10, 42]
abbrev dktX4_may_2 : List UInt8 := dkwX4_may_2 ++ dktX4_may_3
def dkwX4_may_1 : List UInt8 := [182, 0, 79, 42, 180, 0, 18, 180, 0, 103, 42, 42, 180, 0, 18, 180, 0, 103, 185, 0, 107, 1, 0]
abbrev dktX4_may_1 : List UInt8 := dkwX4_may_1 ++ dktX4_may_2
def dkwX4_may_0 : List UInt8 := [42, 42, 180, 0, 18, 180, 0, 130, 16, 40, 162, 0, 7, 4, 167, 0, 4, 3, 5, 182, 0, 87, 42]
abbrev dktX4_may_0 : List UInt8 := dkwX4_may_0 ++ dktX4_may_1
theorem dksX4_may_0 : cX4_may.data.toList.drop 0 = dktX4_may_0 := by decide +kernel
theorem dksX4_may_1 : cX4_may.data.toList.drop 23 = dktX4_may_1 := dk_seg dksX4_may_0 23 rfl rfl
theorem dksX4_may_2 : cX4_may.data.toList.drop 46 = dktX4_may_2 := dk_seg dksX4_may_1 23 rfl rfl
theorem dksX4_may_3 : cX4_may.data.toList.drop 69 = dktX4_may_3 := dk_seg dksX4_may_2 23 rfl rfl
theorem dksX4_may_4 : cX4_may.data.toList.drop 92 = dktX4_may_4 := dk_seg dksX4_may_3 23 rfl rfl
theorem dksX4_may_5 : cX4_may.data.toList.drop 116 = dktX4_may_5 := dk_seg dksX4_may_4 24 rfl rfl
theorem dksX4_may_6 : cX4_may.data.toList.drop 139 = dktX4_may_6 := dk_seg dksX4_may_5 23 rfl rfl
theorem dksX4_may_7 : cX4_may.data.toList.drop 163 = dktX4_may_7 := dk_seg dksX4_may_6 24 rfl rfl
theorem dksX4_may_8 : cX4_may.data.toList.drop 185 = dktX4_may_8 := dk_seg dksX4_may_7 22 rfl rfl
theorem dX4_may_0 : decode cX4_may 0 = .ok (.aload_n 0, 1) := dk_42 (dk_at dksX4_may_0 0 rfl rfl)
theorem dX4_may_1 : decode cX4_may 1 = .ok (.aload_n 0, 1) := dk_42 (dk_at dksX4_may_0 1 rfl rfl)
theorem dX4_may_2 : decode cX4_may 2 = .ok (.getfield 18, 3) := dk_180 0 18 (dk_at dksX4_may_0 2 rfl rfl)
theorem dX4_may_5 : decode cX4_may 5 = .ok (.getfield 130, 3) := dk_180 0 130 (dk_at dksX4_may_0 5 rfl rfl)
theorem dX4_may_8 : decode cX4_may 8 = .ok (.bipush 40, 2) := dk_16 40 (dk_at dksX4_may_0 8 rfl rfl)
theorem dX4_may_10 : decode cX4_may 10 = .ok (.if_icmp .ge 7, 3) := dk_162 0 7 (dk_at dksX4_may_0 10 rfl rfl)
theorem dX4_may_13 : decode cX4_may 13 = .ok (.iconst 1, 1) := dk_4 (dk_at dksX4_may_0 13 rfl rfl)
theorem dX4_may_14 : decode cX4_may 14 = .ok (.goto 4, 3) := dk_167 0 4 (dk_at dksX4_may_0 14 rfl rfl)
theorem dX4_may_17 : decode cX4_may 17 = .ok (.iconst 0, 1) := dk_3 (dk_at dksX4_may_0 17 rfl rfl)
theorem dX4_may_18 : decode cX4_may 18 = .ok (.iconst 2, 1) := dk_5 (dk_at dksX4_may_0 18 rfl rfl)
theorem dX4_may_19 : decode cX4_may 19 = .ok (.invokevirtual 87, 3) := dk_182 0 87 (dk_at dksX4_may_0 19 rfl rfl)
theorem dX4_may_22 : decode cX4_may 22 = .ok (.aload_n 0, 1) := dk_42 (dk_at dksX4_may_0 22 rfl rfl)
theorem dX4_may_23 : decode cX4_may 23 = .ok (.invokevirtual 79, 3) := dk_182 0 79 (dk_at dksX4_may_1 0 rfl rfl)
theorem dX4_may_26 : decode cX4_may 26 = .ok (.aload_n 0, 1) := dk_42 (dk_at dksX4_may_1 3 rfl rfl)
theorem dX4_may_27 : decode cX4_may 27 = .ok (.getfield 18, 3) := dk_180 0 18 (dk_at dksX4_may_1 4 rfl rfl)
theorem dX4_may_30 : decode cX4_may 30 = .ok (.getfield 103, 3) := dk_180 0 103 (dk_at dksX4_may_1 7 rfl rfl)
theorem dX4_may_33 : decode cX4_may 33 = .ok (.aload_n 0, 1) := dk_42 (dk_at dksX4_may_1 10 rfl rfl)
theorem dX4_may_34 : decode cX4_may 34 = .ok (.aload_n 0, 1) := dk_42 (dk_at dksX4_may_1 11 rfl rfl)
theorem dX4_may_35 : decode cX4_may 35 = .ok (.getfield 18, 3) := dk_180 0 18 (dk_at dksX4_may_1 12 rfl rfl)
theorem dX4_may_38 : decode cX4_may 38 = .ok (.getfield 103, 3) := dk_180 0 103 (dk_at dksX4_may_1 15 rfl rfl)
theorem dX4_may_41 : decode cX4_may 41 = .ok (.invokeinterface 107 1, 5) := by decide +kernel
theorem dX4_may_46 : decode cX4_may 46 = .ok (.invokevirtual 133, 3) := dk_182 0 133 (dk_at dksX4_may_2 0 rfl rfl)
theorem dX4_may_49 : decode cX4_may 49 = .ok (.invokeinterface 136 2, 5) := by decide +kernel
theorem dX4_may_54 : decode cX4_may 54 = .ok (.checkcast 121, 3) := dk_192 0 121 (dk_at dksX4_may_2 8 rfl rfl)
theorem dX4_may_57 : decode cX4_may 57 = .ok (.astore_n 1, 1) := dk_76 (dk_at dksX4_may_2 11 rfl rfl)
theorem dX4_may_58 : decode cX4_may 58 = .ok (.aload_n 0, 1) := dk_42 (dk_at dksX4_may_2 12 rfl rfl)
theorem dX4_may_59 : decode cX4_may 59 = .ok (.invokevirtual 140, 3) := dk_182 0 140 (dk_at dksX4_may_2 13 rfl rfl)
theorem dX4_may_62 : decode cX4_may 62 = .ok (.istore_n 2, 1) := dk_61 (dk_at dksX4_may_2 16 rfl rfl)
theorem dX4_may_63 : decode cX4_may 63 = .ok (.iload_n 2, 1) := dk_28 (dk_at dksX4_may_2 17 rfl rfl)
theorem dX4_may_64 : decode cX4_may 64 = .ok (.iconst (-1), 1) := dk_2 (dk_at dksX4_may_2 18 rfl rfl)
theorem dX4_may_65 : decode cX4_may 65 = .ok (.if_icmp .eq 10, 3) := dk_159 0 10 (dk_at dksX4_may_2 19 rfl rfl)
theorem dX4_may_68 : decode cX4_may 68 = .ok (.aload_n 0, 1) := dk_42 (dk_at dksX4_may_2 22 rfl rfl)
theorem dX4_may_69 : decode cX4_may 69 = .ok (.invokevirtual 79, 3) := dk_182 0 79 (dk_at dksX4_may_3 0 rfl rfl)
theorem dX4_may_72 : decode cX4_may 72 = .ok (.goto 57, 3) := dk_167 0 57 (dk_at dksX4_may_3 3 rfl rfl)
theorem dX4_may_75 : decode cX4_may 75 = .ok (.aload_n 0, 1) := dk_42 (dk_at dksX4_may_3 6 rfl rfl)
theorem dX4_may_76 : decode cX4_may 76 = .ok (.aload_n 0, 1) := dk_42 (dk_at dksX4_may_3 7 rfl rfl)
theorem dX4_may_77 : decode cX4_may 77 = .ok (.ldc 143, 2) := dk_18 143 (dk_at dksX4_may_3 8 rfl rfl)
theorem dX4_may_79 : decode cX4_may 79 = .ok (.invokevirtual 75, 3) := dk_182 0 75 (dk_at dksX4_may_3 10 rfl rfl)
theorem dX4_may_82 : decode cX4_may 82 = .ok (.iconst 1, 1) := dk_4 (dk_at dksX4_may_3 13 rfl rfl)
theorem dX4_may_83 : decode cX4_may 83 = .ok (.invokevirtual 87, 3) := dk_182 0 87 (dk_at dksX4_may_3 14 rfl rfl)
theorem dX4_may_86 : decode cX4_may 86 = .ok (.aload_n 0, 1) := dk_42 (dk_at dksX4_may_3 17 rfl rfl)
theorem dX4_may_87 : decode cX4_may 87 = .ok (.invokevirtual 79, 3) := dk_182 0 79 (dk_at dksX4_may_3 18 rfl rfl)
theorem dX4_may_90 : decode cX4_may 90 = .ok (.aload_n 0, 1) := dk_42 (dk_at dksX4_may_3 21 rfl rfl)
theorem dX4_may_91 : decode cX4_may 91 = .ok (.aload_n 0, 1) := dk_42 (dk_at dksX4_may_3 22 rfl rfl)
theorem dX4_may_92 : decode cX4_may 92 = .ok (.getfield 18, 3) := dk_180 0 18 (dk_at dksX4_may_4 0 rfl rfl)
theorem dX4_may_95 : decode cX4_may 95 = .ok (.getfield 111, 3) := dk_180 0 111 (dk_at dksX4_may_4 3 rfl rfl)
theorem dX4_may_98 : decode cX4_may 98 = .ok (.invokevirtual 91, 3) := dk_182 0 91 (dk_at dksX4_may_4 6 rfl rfl)
theorem dX4_may_101 : decode cX4_may 101 = .ok (.istore_n 3, 1) := dk_62 (dk_at dksX4_may_4 9 rfl rfl)
theorem dX4_may_102 : decode cX4_may 102 = .ok (.aload_n 0, 1) := dk_42 (dk_at dksX4_may_4 10 rfl rfl)
theorem dX4_may_103 : decode cX4_may 103 = .ok (.iload_n 3, 1) := dk_29 (dk_at dksX4_may_4 11 rfl rfl)
theorem dX4_may_104 : decode cX4_may 104 = .ok (.aload_n 1, 1) := dk_43 (dk_at dksX4_may_4 12 rfl rfl)
theorem dX4_may_105 : decode cX4_may 105 = .ok (.getfield 144, 3) := dk_180 0 144 (dk_at dksX4_may_4 13 rfl rfl)
theorem dX4_may_108 : decode cX4_may 108 = .ok (.if_icmp .eq 7, 3) := dk_159 0 7 (dk_at dksX4_may_4 16 rfl rfl)
theorem dX4_may_111 : decode cX4_may 111 = .ok (.iconst 1, 1) := dk_4 (dk_at dksX4_may_4 19 rfl rfl)
theorem dX4_may_112 : decode cX4_may 112 = .ok (.goto 4, 3) := dk_167 0 4 (dk_at dksX4_may_4 20 rfl rfl)
theorem dX4_may_115 : decode cX4_may 115 = .ok (.iconst 0, 1) := dk_3 (dk_at dksX4_may_4 23 rfl rfl)
theorem dX4_may_116 : decode cX4_may 116 = .ok (.iconst 4, 1) := dk_7 (dk_at dksX4_may_5 0 rfl rfl)
theorem dX4_may_117 : decode cX4_may 117 = .ok (.invokevirtual 87, 3) := dk_182 0 87 (dk_at dksX4_may_5 1 rfl rfl)
theorem dX4_may_120 : decode cX4_may 120 = .ok (.aload_n 0, 1) := dk_42 (dk_at dksX4_may_5 4 rfl rfl)
theorem dX4_may_121 : decode cX4_may 121 = .ok (.invokevirtual 79, 3) := dk_182 0 79 (dk_at dksX4_may_5 5 rfl rfl)
theorem dX4_may_124 : decode cX4_may 124 = .ok (.bipush 10, 2) := dk_16 10 (dk_at dksX4_may_5 8 rfl rfl)
theorem dX4_may_126 : decode cX4_may 126 = .ok (.iload_n 3, 1) := dk_29 (dk_at dksX4_may_5 10 rfl rfl)
theorem dX4_may_127 : decode cX4_may 127 = .ok (.iadd, 1) := dk_96 (dk_at dksX4_may_5 11 rfl rfl)
theorem dX4_may_128 : decode cX4_may 128 = .ok (.istore_n 2, 1) := dk_61 (dk_at dksX4_may_5 12 rfl rfl)
theorem dX4_may_129 : decode cX4_may 129 = .ok (.aload_n 0, 1) := dk_42 (dk_at dksX4_may_5 13 rfl rfl)
theorem dX4_may_130 : decode cX4_may 130 = .ok (.iconst 0, 1) := dk_3 (dk_at dksX4_may_5 14 rfl rfl)
theorem dX4_may_131 : decode cX4_may 131 = .ok (.bipush 23, 2) := dk_16 23 (dk_at dksX4_may_5 15 rfl rfl)
theorem dX4_may_133 : decode cX4_may 133 = .ok (.invokevirtual 147, 3) := dk_182 0 147 (dk_at dksX4_may_5 17 rfl rfl)
theorem dX4_may_136 : decode cX4_may 136 = .ok (.istore_n 3, 1) := dk_62 (dk_at dksX4_may_5 20 rfl rfl)
theorem dX4_may_137 : decode cX4_may 137 = .ok (.aload_n 0, 1) := dk_42 (dk_at dksX4_may_5 21 rfl rfl)
theorem dX4_may_138 : decode cX4_may 138 = .ok (.iload_n 3, 1) := dk_29 (dk_at dksX4_may_5 22 rfl rfl)
theorem dX4_may_139 : decode cX4_may 139 = .ok (.bipush 23, 2) := dk_16 23 (dk_at dksX4_may_6 0 rfl rfl)
theorem dX4_may_141 : decode cX4_may 141 = .ok (.invokevirtual 147, 3) := dk_182 0 147 (dk_at dksX4_may_6 2 rfl rfl)
theorem dX4_may_144 : decode cX4_may 144 = .ok (.istore 4, 2) := dk_54 4 (dk_at dksX4_may_6 5 rfl rfl)
theorem dX4_may_146 : decode cX4_may 146 = .ok (.iload_n 3, 1) := dk_29 (dk_at dksX4_may_6 7 rfl rfl)
theorem dX4_may_147 : decode cX4_may 147 = .ok (.istore 5, 2) := dk_54 5 (dk_at dksX4_may_6 8 rfl rfl)
theorem dX4_may_149 : decode cX4_may 149 = .ok (.iload 5, 2) := dk_21 5 (dk_at dksX4_may_6 10 rfl rfl)
theorem dX4_may_151 : decode cX4_may 151 = .ok (.iload 4, 2) := dk_21 4 (dk_at dksX4_may_6 12 rfl rfl)
theorem dX4_may_153 : decode cX4_may 153 = .ok (.if_icmp .gt 22, 3) := dk_163 0 22 (dk_at dksX4_may_6 14 rfl rfl)
theorem dX4_may_156 : decode cX4_may 156 = .ok (.aload_n 1, 1) := dk_43 (dk_at dksX4_may_6 17 rfl rfl)
theorem dX4_may_157 : decode cX4_may 157 = .ok (.getfield 149, 3) := dk_180 0 149 (dk_at dksX4_may_6 18 rfl rfl)
theorem dX4_may_160 : decode cX4_may 160 = .ok (.iload 5, 2) := dk_21 5 (dk_at dksX4_may_6 21 rfl rfl)
theorem dX4_may_162 : decode cX4_may 162 = .ok (.dup2, 1) := dk_92 (dk_at dksX4_may_6 23 rfl rfl)
theorem dX4_may_163 : decode cX4_may 163 = .ok (.iaload, 1) := dk_46 (dk_at dksX4_may_7 0 rfl rfl)
theorem dX4_may_164 : decode cX4_may 164 = .ok (.iconst 1, 1) := dk_4 (dk_at dksX4_may_7 1 rfl rfl)
theorem dX4_may_165 : decode cX4_may 165 = .ok (.iload_n 2, 1) := dk_28 (dk_at dksX4_may_7 2 rfl rfl)
theorem dX4_may_166 : decode cX4_may 166 = .ok (.ishl, 1) := dk_120 (dk_at dksX4_may_7 3 rfl rfl)
theorem dX4_may_167 : decode cX4_may 167 = .ok (.ior, 1) := dk_128 (dk_at dksX4_may_7 4 rfl rfl)
theorem dX4_may_168 : decode cX4_may 168 = .ok (.iastore, 1) := dk_79 (dk_at dksX4_may_7 5 rfl rfl)
theorem dX4_may_169 : decode cX4_may 169 = .ok (.iinc 5 1, 3) := dk_132 5 1 (dk_at dksX4_may_7 6 rfl rfl)
theorem dX4_may_172 : decode cX4_may 172 = .ok (.goto (-23), 3) := dk_167 255 233 (dk_at dksX4_may_7 9 rfl rfl)
theorem dX4_may_175 : decode cX4_may 175 = .ok (.aload_n 0, 1) := dk_42 (dk_at dksX4_may_7 12 rfl rfl)
theorem dX4_may_176 : decode cX4_may 176 = .ok (.getfield 18, 3) := dk_180 0 18 (dk_at dksX4_may_7 13 rfl rfl)
theorem dX4_may_179 : decode cX4_may 179 = .ok (.dup, 1) := dk_89 (dk_at dksX4_may_7 16 rfl rfl)
theorem dX4_may_180 : decode cX4_may 180 = .ok (.getfield 130, 3) := dk_180 0 130 (dk_at dksX4_may_7 17 rfl rfl)
theorem dX4_may_183 : decode cX4_may 183 = .ok (.iconst 1, 1) := dk_4 (dk_at dksX4_may_7 20 rfl rfl)
theorem dX4_may_184 : decode cX4_may 184 = .ok (.iadd, 1) := dk_96 (dk_at dksX4_may_7 21 rfl rfl)
theorem dX4_may_185 : decode cX4_may 185 = .ok (.putfield 130, 3) := dk_181 0 130 (dk_at dksX4_may_8 0 rfl rfl)
theorem dX4_may_188 : decode cX4_may 188 = .ok (.return_, 1) := dk_177 (dk_at dksX4_may_8 3 rfl rfl)
def dkwX4_doing_2 : List UInt8 := [153, 0, 7, 6, 167, 0, 4, 2, 172]
abbrev dktX4_doing_2 : List UInt8 := dkwX4_doing_2 ++ []
def dkwX4_doing_1 : List UInt8 := [167, 0, 30, 42, 18, 99, 182, 0, 75, 153, 0, 7, 5, 167, 0, 17, 42, 18, 101, 182, 0, 75]
abbrev dktX4_doing_1 : List UInt8 := dkwX4_doing_1 ++ dktX4_doing_2
def dkwX4_doing_0 : List UInt8 := [42, 18, 95, 182, 0, 75, 153, 0, 7, 3, 167, 0, 43, 42, 18, 97, 182, 0, 75, 153, 0, 7, 4]
abbrev dktX4_doing_0 : List UInt8 := dkwX4_doing_0 ++ dktX4_doing_1
theorem dksX4_doing_0 : cX4_doing.data.toList.drop 0 = dktX4_doing_0 := by decide +kernel
theorem dksX4_doing_1 : cX4_doing.data.toList.drop 23 = dktX4_doing_1 := dk_seg dksX4_doing_0 23 rfl rfl
theorem dksX4_doing_2 : cX4_doing.data.toList.drop 45 = dktX4_doing_2 := dk_seg dksX4_doing_1 22 rfl rfl
theorem dX4_doing_0 : decode cX4_doing 0 = .ok (.aload_n 0, 1) := dk_42 (dk_at dksX4_doing_0 0 rfl rfl)
theorem dX4_doing_1 : decode cX4_doing 1 = .ok (.ldc 95, 2) := dk_18 95 (dk_at dksX4_doing_0 1 rfl rfl)
theorem dX4_doing_3 : decode cX4_doing 3 = .ok (.invokevirtual 75, 3) := dk_182 0 75 (dk_at dksX4_doing_0 3 rfl rfl)
theorem dX4_doing_6 : decode cX4_doing 6 = .ok (.ifCond .eq 7, 3) := dk_153 0 7 (dk_at dksX4_doing_0 6 rfl rfl)
theorem dX4_doing_9 : decode cX4_doing 9 = .ok (.iconst 0, 1) := dk_3 (dk_at dksX4_doing_0 9 rfl rfl)
theorem dX4_doing_10 : decode cX4_doing 10 = .ok (.goto 43, 3) := dk_167 0 43 (dk_at dksX4_doing_0 10 rfl rfl)
theorem dX4_doing_13 : decode cX4_doing 13 = .ok (.aload_n 0, 1) := dk_42 (dk_at dksX4_doing_0 13 rfl rfl)
theorem dX4_doing_14 : decode cX4_doing 14 = .ok (.ldc 97, 2) := dk_18 97 (dk_at dksX4_doing_0 14 rfl rfl)
theorem dX4_doing_16 : decode cX4_doing 16 = .ok (.invokevirtual 75, 3) := dk_182 0 75 (dk_at dksX4_doing_0 16 rfl rfl)
theorem dX4_doing_19 : decode cX4_doing 19 = .ok (.ifCond .eq 7, 3) := dk_153 0 7 (dk_at dksX4_doing_0 19 rfl rfl)
theorem dX4_doing_22 : decode cX4_doing 22 = .ok (.iconst 1, 1) := dk_4 (dk_at dksX4_doing_0 22 rfl rfl)
theorem dX4_doing_23 : decode cX4_doing 23 = .ok (.goto 30, 3) := dk_167 0 30 (dk_at dksX4_doing_1 0 rfl rfl)
theorem dX4_doing_26 : decode cX4_doing 26 = .ok (.aload_n 0, 1) := dk_42 (dk_at dksX4_doing_1 3 rfl rfl)
theorem dX4_doing_27 : decode cX4_doing 27 = .ok (.ldc 99, 2) := dk_18 99 (dk_at dksX4_doing_1 4 rfl rfl)
theorem dX4_doing_29 : decode cX4_doing 29 = .ok (.invokevirtual 75, 3) := dk_182 0 75 (dk_at dksX4_doing_1 6 rfl rfl)
theorem dX4_doing_32 : decode cX4_doing 32 = .ok (.ifCond .eq 7, 3) := dk_153 0 7 (dk_at dksX4_doing_1 9 rfl rfl)
theorem dX4_doing_35 : decode cX4_doing 35 = .ok (.iconst 2, 1) := dk_5 (dk_at dksX4_doing_1 12 rfl rfl)
theorem dX4_doing_36 : decode cX4_doing 36 = .ok (.goto 17, 3) := dk_167 0 17 (dk_at dksX4_doing_1 13 rfl rfl)
theorem dX4_doing_39 : decode cX4_doing 39 = .ok (.aload_n 0, 1) := dk_42 (dk_at dksX4_doing_1 16 rfl rfl)
theorem dX4_doing_40 : decode cX4_doing 40 = .ok (.ldc 101, 2) := dk_18 101 (dk_at dksX4_doing_1 17 rfl rfl)
theorem dX4_doing_42 : decode cX4_doing 42 = .ok (.invokevirtual 75, 3) := dk_182 0 75 (dk_at dksX4_doing_1 19 rfl rfl)
theorem dX4_doing_45 : decode cX4_doing 45 = .ok (.ifCond .eq 7, 3) := dk_153 0 7 (dk_at dksX4_doing_2 0 rfl rfl)
theorem dX4_doing_48 : decode cX4_doing 48 = .ok (.iconst 3, 1) := dk_6 (dk_at dksX4_doing_2 3 rfl rfl)
theorem dX4_doing_49 : decode cX4_doing 49 = .ok (.goto 4, 3) := dk_167 0 4 (dk_at dksX4_doing_2 4 rfl rfl)
theorem dX4_doing_52 : decode cX4_doing 52 = .ok (.iconst (-1), 1) := dk_2 (dk_at dksX4_doing_2 7 rfl rfl)
theorem dX4_doing_53 : decode cX4_doing 53 = .ok (.ireturn, 1) := dk_172 (dk_at dksX4_doing_2 8 rfl rfl)
def dkwX4_passes_0 : List UInt8 := [42, 43, 182, 0, 75, 61, 28, 153, 0, 7, 42, 182, 0, 79, 28, 172]
abbrev dktX4_passes_0 : List UInt8 := dkwX4_passes_0 ++ []
theorem dksX4_passes_0 : cX4_passes.data.toList.drop 0 = dktX4_passes_0 := by decide +kernel
theorem dX4_passes_0 : decode cX4_passes 0 = .ok (.aload_n 0, 1) := dk_42 (dk_at dksX4_passes_0 0 rfl rfl)
theorem dX4_passes_1 : decode cX4_passes 1 = .ok (.aload_n 1, 1) := dk_43 (dk_at dksX4_passes_0 1 rfl rfl)
theorem dX4_passes_2 : decode cX4_passes 2 = .ok (.invokevirtual 75, 3) := dk_182 0 75 (dk_at dksX4_passes_0 2 rfl rfl)
theorem dX4_passes_5 : decode cX4_passes 5 = .ok (.istore_n 2, 1) := dk_61 (dk_at dksX4_passes_0 5 rfl rfl)
theorem dX4_passes_6 : decode cX4_passes 6 = .ok (.iload_n 2, 1) := dk_28 (dk_at dksX4_passes_0 6 rfl rfl)
theorem dX4_passes_7 : decode cX4_passes 7 = .ok (.ifCond .eq 7, 3) := dk_153 0 7 (dk_at dksX4_passes_0 7 rfl rfl)
theorem dX4_passes_10 : decode cX4_passes 10 = .ok (.aload_n 0, 1) := dk_42 (dk_at dksX4_passes_0 10 rfl rfl)
theorem dX4_passes_11 : decode cX4_passes 11 = .ok (.invokevirtual 79, 3) := dk_182 0 79 (dk_at dksX4_passes_0 11 rfl rfl)
theorem dX4_passes_14 : decode cX4_passes 14 = .ok (.iload_n 2, 1) := dk_28 (dk_at dksX4_passes_0 14 rfl rfl)
theorem dX4_passes_15 : decode cX4_passes 15 = .ok (.ireturn, 1) := dk_172 (dk_at dksX4_passes_0 15 rfl rfl)
def dkwX4_law_5 : List UInt8 := [3, 4, 182, 0, 87, 42, 182, 0, 79, 42, 180, 0, 18, 180, 0, 160, 27, 28, 79, 177]
abbrev dktX4_law_5 : List UInt8 := dkwX4_law_5 ++ []
def dkwX4_law_4 : List UInt8 := [167, 0, 4, 6, 61, 42, 28, 6, 160, 0, 12, 42, 18, 158, 182, 0, 75, 153, 0, 7, 4, 167, 0, 4]
abbrev dktX4_law_4 : List UInt8 := dkwX4_law_4 ++ dktX4_law_5
def dkwX4_law_3 : List UInt8 := [42, 18, 117, 182, 0, 75, 153, 0, 7, 4, 167, 0, 17, 42, 18, 119, 182, 0, 75, 153, 0, 7, 5]
abbrev dktX4_law_3 : List UInt8 := dkwX4_law_3 ++ dktX4_law_4
def dkwX4_law_2 : List UInt8 := [4, 27, 120, 128, 181, 0, 153, 42, 182, 0, 79, 42, 18, 156, 182, 0, 75, 153, 0, 7, 3, 167, 0, 30]
abbrev dktX4_law_2 : List UInt8 := dkwX4_law_2 ++ dktX4_law_3
def dkwX4_law_1 : List UInt8 := [180, 0, 153, 27, 122, 4, 126, 154, 0, 7, 4, 167, 0, 4, 3, 8, 182, 0, 87, 42, 89, 180, 0, 153]
abbrev dktX4_law_1 : List UInt8 := dkwX4_law_1 ++ dktX4_law_2
def dkwX4_law_0 : List UInt8 := [42, 182, 0, 140, 60, 42, 27, 2, 159, 0, 7, 4, 167, 0, 4, 3, 4, 182, 0, 87, 42, 42]
abbrev dktX4_law_0 : List UInt8 := dkwX4_law_0 ++ dktX4_law_1
theorem dksX4_law_0 : cX4_law.data.toList.drop 0 = dktX4_law_0 := by decide +kernel
theorem dksX4_law_1 : cX4_law.data.toList.drop 22 = dktX4_law_1 := dk_seg dksX4_law_0 22 rfl rfl
theorem dksX4_law_2 : cX4_law.data.toList.drop 46 = dktX4_law_2 := dk_seg dksX4_law_1 24 rfl rfl
theorem dksX4_law_3 : cX4_law.data.toList.drop 70 = dktX4_law_3 := dk_seg dksX4_law_2 24 rfl rfl
theorem dksX4_law_4 : cX4_law.data.toList.drop 93 = dktX4_law_4 := dk_seg dksX4_law_3 23 rfl rfl
theorem dksX4_law_5 : cX4_law.data.toList.drop 117 = dktX4_law_5 := dk_seg dksX4_law_4 24 rfl rfl
theorem dX4_law_0 : decode cX4_law 0 = .ok (.aload_n 0, 1) := dk_42 (dk_at dksX4_law_0 0 rfl rfl)
theorem dX4_law_1 : decode cX4_law 1 = .ok (.invokevirtual 140, 3) := dk_182 0 140 (dk_at dksX4_law_0 1 rfl rfl)
theorem dX4_law_4 : decode cX4_law 4 = .ok (.istore_n 1, 1) := dk_60 (dk_at dksX4_law_0 4 rfl rfl)
theorem dX4_law_5 : decode cX4_law 5 = .ok (.aload_n 0, 1) := dk_42 (dk_at dksX4_law_0 5 rfl rfl)
theorem dX4_law_6 : decode cX4_law 6 = .ok (.iload_n 1, 1) := dk_27 (dk_at dksX4_law_0 6 rfl rfl)
theorem dX4_law_7 : decode cX4_law 7 = .ok (.iconst (-1), 1) := dk_2 (dk_at dksX4_law_0 7 rfl rfl)
theorem dX4_law_8 : decode cX4_law 8 = .ok (.if_icmp .eq 7, 3) := dk_159 0 7 (dk_at dksX4_law_0 8 rfl rfl)
theorem dX4_law_11 : decode cX4_law 11 = .ok (.iconst 1, 1) := dk_4 (dk_at dksX4_law_0 11 rfl rfl)
theorem dX4_law_12 : decode cX4_law 12 = .ok (.goto 4, 3) := dk_167 0 4 (dk_at dksX4_law_0 12 rfl rfl)
theorem dX4_law_15 : decode cX4_law 15 = .ok (.iconst 0, 1) := dk_3 (dk_at dksX4_law_0 15 rfl rfl)
theorem dX4_law_16 : decode cX4_law 16 = .ok (.iconst 1, 1) := dk_4 (dk_at dksX4_law_0 16 rfl rfl)
theorem dX4_law_17 : decode cX4_law 17 = .ok (.invokevirtual 87, 3) := dk_182 0 87 (dk_at dksX4_law_0 17 rfl rfl)
theorem dX4_law_20 : decode cX4_law 20 = .ok (.aload_n 0, 1) := dk_42 (dk_at dksX4_law_0 20 rfl rfl)
theorem dX4_law_21 : decode cX4_law 21 = .ok (.aload_n 0, 1) := dk_42 (dk_at dksX4_law_0 21 rfl rfl)
theorem dX4_law_22 : decode cX4_law 22 = .ok (.getfield 153, 3) := dk_180 0 153 (dk_at dksX4_law_1 0 rfl rfl)
theorem dX4_law_25 : decode cX4_law 25 = .ok (.iload_n 1, 1) := dk_27 (dk_at dksX4_law_1 3 rfl rfl)
theorem dX4_law_26 : decode cX4_law 26 = .ok (.ishr, 1) := dk_122 (dk_at dksX4_law_1 4 rfl rfl)
theorem dX4_law_27 : decode cX4_law 27 = .ok (.iconst 1, 1) := dk_4 (dk_at dksX4_law_1 5 rfl rfl)
theorem dX4_law_28 : decode cX4_law 28 = .ok (.iand, 1) := dk_126 (dk_at dksX4_law_1 6 rfl rfl)
theorem dX4_law_29 : decode cX4_law 29 = .ok (.ifCond .ne 7, 3) := dk_154 0 7 (dk_at dksX4_law_1 7 rfl rfl)
theorem dX4_law_32 : decode cX4_law 32 = .ok (.iconst 1, 1) := dk_4 (dk_at dksX4_law_1 10 rfl rfl)
theorem dX4_law_33 : decode cX4_law 33 = .ok (.goto 4, 3) := dk_167 0 4 (dk_at dksX4_law_1 11 rfl rfl)
theorem dX4_law_36 : decode cX4_law 36 = .ok (.iconst 0, 1) := dk_3 (dk_at dksX4_law_1 14 rfl rfl)
theorem dX4_law_37 : decode cX4_law 37 = .ok (.iconst 5, 1) := dk_8 (dk_at dksX4_law_1 15 rfl rfl)
theorem dX4_law_38 : decode cX4_law 38 = .ok (.invokevirtual 87, 3) := dk_182 0 87 (dk_at dksX4_law_1 16 rfl rfl)
theorem dX4_law_41 : decode cX4_law 41 = .ok (.aload_n 0, 1) := dk_42 (dk_at dksX4_law_1 19 rfl rfl)
theorem dX4_law_42 : decode cX4_law 42 = .ok (.dup, 1) := dk_89 (dk_at dksX4_law_1 20 rfl rfl)
theorem dX4_law_43 : decode cX4_law 43 = .ok (.getfield 153, 3) := dk_180 0 153 (dk_at dksX4_law_1 21 rfl rfl)
theorem dX4_law_46 : decode cX4_law 46 = .ok (.iconst 1, 1) := dk_4 (dk_at dksX4_law_2 0 rfl rfl)
theorem dX4_law_47 : decode cX4_law 47 = .ok (.iload_n 1, 1) := dk_27 (dk_at dksX4_law_2 1 rfl rfl)
theorem dX4_law_48 : decode cX4_law 48 = .ok (.ishl, 1) := dk_120 (dk_at dksX4_law_2 2 rfl rfl)
theorem dX4_law_49 : decode cX4_law 49 = .ok (.ior, 1) := dk_128 (dk_at dksX4_law_2 3 rfl rfl)
theorem dX4_law_50 : decode cX4_law 50 = .ok (.putfield 153, 3) := dk_181 0 153 (dk_at dksX4_law_2 4 rfl rfl)
theorem dX4_law_53 : decode cX4_law 53 = .ok (.aload_n 0, 1) := dk_42 (dk_at dksX4_law_2 7 rfl rfl)
theorem dX4_law_54 : decode cX4_law 54 = .ok (.invokevirtual 79, 3) := dk_182 0 79 (dk_at dksX4_law_2 8 rfl rfl)
theorem dX4_law_57 : decode cX4_law 57 = .ok (.aload_n 0, 1) := dk_42 (dk_at dksX4_law_2 11 rfl rfl)
theorem dX4_law_58 : decode cX4_law 58 = .ok (.ldc 156, 2) := dk_18 156 (dk_at dksX4_law_2 12 rfl rfl)
theorem dX4_law_60 : decode cX4_law 60 = .ok (.invokevirtual 75, 3) := dk_182 0 75 (dk_at dksX4_law_2 14 rfl rfl)
theorem dX4_law_63 : decode cX4_law 63 = .ok (.ifCond .eq 7, 3) := dk_153 0 7 (dk_at dksX4_law_2 17 rfl rfl)
theorem dX4_law_66 : decode cX4_law 66 = .ok (.iconst 0, 1) := dk_3 (dk_at dksX4_law_2 20 rfl rfl)
theorem dX4_law_67 : decode cX4_law 67 = .ok (.goto 30, 3) := dk_167 0 30 (dk_at dksX4_law_2 21 rfl rfl)
theorem dX4_law_70 : decode cX4_law 70 = .ok (.aload_n 0, 1) := dk_42 (dk_at dksX4_law_3 0 rfl rfl)
theorem dX4_law_71 : decode cX4_law 71 = .ok (.ldc 117, 2) := dk_18 117 (dk_at dksX4_law_3 1 rfl rfl)
theorem dX4_law_73 : decode cX4_law 73 = .ok (.invokevirtual 75, 3) := dk_182 0 75 (dk_at dksX4_law_3 3 rfl rfl)
theorem dX4_law_76 : decode cX4_law 76 = .ok (.ifCond .eq 7, 3) := dk_153 0 7 (dk_at dksX4_law_3 6 rfl rfl)
theorem dX4_law_79 : decode cX4_law 79 = .ok (.iconst 1, 1) := dk_4 (dk_at dksX4_law_3 9 rfl rfl)
theorem dX4_law_80 : decode cX4_law 80 = .ok (.goto 17, 3) := dk_167 0 17 (dk_at dksX4_law_3 10 rfl rfl)
theorem dX4_law_83 : decode cX4_law 83 = .ok (.aload_n 0, 1) := dk_42 (dk_at dksX4_law_3 13 rfl rfl)
theorem dX4_law_84 : decode cX4_law 84 = .ok (.ldc 119, 2) := dk_18 119 (dk_at dksX4_law_3 14 rfl rfl)
theorem dX4_law_86 : decode cX4_law 86 = .ok (.invokevirtual 75, 3) := dk_182 0 75 (dk_at dksX4_law_3 16 rfl rfl)
theorem dX4_law_89 : decode cX4_law 89 = .ok (.ifCond .eq 7, 3) := dk_153 0 7 (dk_at dksX4_law_3 19 rfl rfl)
theorem dX4_law_92 : decode cX4_law 92 = .ok (.iconst 2, 1) := dk_5 (dk_at dksX4_law_3 22 rfl rfl)
theorem dX4_law_93 : decode cX4_law 93 = .ok (.goto 4, 3) := dk_167 0 4 (dk_at dksX4_law_4 0 rfl rfl)
theorem dX4_law_96 : decode cX4_law 96 = .ok (.iconst 3, 1) := dk_6 (dk_at dksX4_law_4 3 rfl rfl)
theorem dX4_law_97 : decode cX4_law 97 = .ok (.istore_n 2, 1) := dk_61 (dk_at dksX4_law_4 4 rfl rfl)
theorem dX4_law_98 : decode cX4_law 98 = .ok (.aload_n 0, 1) := dk_42 (dk_at dksX4_law_4 5 rfl rfl)
theorem dX4_law_99 : decode cX4_law 99 = .ok (.iload_n 2, 1) := dk_28 (dk_at dksX4_law_4 6 rfl rfl)
theorem dX4_law_100 : decode cX4_law 100 = .ok (.iconst 3, 1) := dk_6 (dk_at dksX4_law_4 7 rfl rfl)
theorem dX4_law_101 : decode cX4_law 101 = .ok (.if_icmp .ne 12, 3) := dk_160 0 12 (dk_at dksX4_law_4 8 rfl rfl)
theorem dX4_law_104 : decode cX4_law 104 = .ok (.aload_n 0, 1) := dk_42 (dk_at dksX4_law_4 11 rfl rfl)
theorem dX4_law_105 : decode cX4_law 105 = .ok (.ldc 158, 2) := dk_18 158 (dk_at dksX4_law_4 12 rfl rfl)
theorem dX4_law_107 : decode cX4_law 107 = .ok (.invokevirtual 75, 3) := dk_182 0 75 (dk_at dksX4_law_4 14 rfl rfl)
theorem dX4_law_110 : decode cX4_law 110 = .ok (.ifCond .eq 7, 3) := dk_153 0 7 (dk_at dksX4_law_4 17 rfl rfl)
theorem dX4_law_113 : decode cX4_law 113 = .ok (.iconst 1, 1) := dk_4 (dk_at dksX4_law_4 20 rfl rfl)
theorem dX4_law_114 : decode cX4_law 114 = .ok (.goto 4, 3) := dk_167 0 4 (dk_at dksX4_law_4 21 rfl rfl)
theorem dX4_law_117 : decode cX4_law 117 = .ok (.iconst 0, 1) := dk_3 (dk_at dksX4_law_5 0 rfl rfl)
theorem dX4_law_118 : decode cX4_law 118 = .ok (.iconst 1, 1) := dk_4 (dk_at dksX4_law_5 1 rfl rfl)
theorem dX4_law_119 : decode cX4_law 119 = .ok (.invokevirtual 87, 3) := dk_182 0 87 (dk_at dksX4_law_5 2 rfl rfl)
theorem dX4_law_122 : decode cX4_law 122 = .ok (.aload_n 0, 1) := dk_42 (dk_at dksX4_law_5 5 rfl rfl)
theorem dX4_law_123 : decode cX4_law 123 = .ok (.invokevirtual 79, 3) := dk_182 0 79 (dk_at dksX4_law_5 6 rfl rfl)
theorem dX4_law_126 : decode cX4_law 126 = .ok (.aload_n 0, 1) := dk_42 (dk_at dksX4_law_5 9 rfl rfl)
theorem dX4_law_127 : decode cX4_law 127 = .ok (.getfield 18, 3) := dk_180 0 18 (dk_at dksX4_law_5 10 rfl rfl)
theorem dX4_law_130 : decode cX4_law 130 = .ok (.getfield 160, 3) := dk_180 0 160 (dk_at dksX4_law_5 13 rfl rfl)
theorem dX4_law_133 : decode cX4_law 133 = .ok (.iload_n 1, 1) := dk_27 (dk_at dksX4_law_5 16 rfl rfl)
theorem dX4_law_134 : decode cX4_law 134 = .ok (.iload_n 2, 1) := dk_28 (dk_at dksX4_law_5 17 rfl rfl)
theorem dX4_law_135 : decode cX4_law 135 = .ok (.iastore, 1) := dk_79 (dk_at dksX4_law_5 18 rfl rfl)
theorem dX4_law_136 : decode cX4_law 136 = .ok (.return_, 1) := dk_177 (dk_at dksX4_law_5 19 rfl rfl)
def dkwX5_init_0 : List UInt8 := [42, 1, 1, 3, 3, 183, 0, 1, 42, 27, 181, 0, 7, 177]
abbrev dktX5_init_0 : List UInt8 := dkwX5_init_0 ++ []
theorem dksX5_init_0 : cX5_init.data.toList.drop 0 = dktX5_init_0 := by decide +kernel
theorem dX5_init_0 : decode cX5_init 0 = .ok (.aload_n 0, 1) := dk_42 (dk_at dksX5_init_0 0 rfl rfl)
theorem dX5_init_1 : decode cX5_init 1 = .ok (.aconst_null, 1) := dk_1 (dk_at dksX5_init_0 1 rfl rfl)
theorem dX5_init_2 : decode cX5_init 2 = .ok (.aconst_null, 1) := dk_1 (dk_at dksX5_init_0 2 rfl rfl)
theorem dX5_init_3 : decode cX5_init 3 = .ok (.iconst 0, 1) := dk_3 (dk_at dksX5_init_0 3 rfl rfl)
theorem dX5_init_4 : decode cX5_init 4 = .ok (.iconst 0, 1) := dk_3 (dk_at dksX5_init_0 4 rfl rfl)
theorem dX5_init_5 : decode cX5_init 5 = .ok (.invokespecial 1, 3) := dk_183 0 1 (dk_at dksX5_init_0 5 rfl rfl)
theorem dX5_init_8 : decode cX5_init 8 = .ok (.aload_n 0, 1) := dk_42 (dk_at dksX5_init_0 8 rfl rfl)
theorem dX5_init_9 : decode cX5_init 9 = .ok (.iload_n 1, 1) := dk_27 (dk_at dksX5_init_0 9 rfl rfl)
theorem dX5_init_10 : decode cX5_init 10 = .ok (.putfield 7, 3) := dk_181 0 7 (dk_at dksX5_init_0 10 rfl rfl)
theorem dX5_init_13 : decode cX5_init 13 = .ok (.return_, 1) := dk_177 (dk_at dksX5_init_0 13 rfl rfl)
def dkwX6_all_2 : List UInt8 := [21, 4, 79, 132, 3, 1, 132, 4, 1, 167, 255, 221, 44, 176]
abbrev dktX6_all_2 : List UInt8 := dkwX6_all_2 ++ []
def dkwX6_all_1 : List UInt8 := [16, 18, 162, 0, 34, 42, 180, 0, 15, 27, 46, 21, 4, 122, 4, 126, 154, 0, 6, 167, 0, 11, 44, 29]
abbrev dktX6_all_1 : List UInt8 := dkwX6_all_1 ++ dktX6_all_2
def dkwX6_all_0 : List UInt8 := [4, 42, 180, 0, 15, 27, 46, 184, 0, 22, 184, 0, 28, 188, 10, 77, 3, 62, 3, 54, 4, 21, 4]
abbrev dktX6_all_0 : List UInt8 := dkwX6_all_0 ++ dktX6_all_1
theorem dksX6_all_0 : cX6_all.data.toList.drop 0 = dktX6_all_0 := by decide +kernel
theorem dksX6_all_1 : cX6_all.data.toList.drop 23 = dktX6_all_1 := dk_seg dksX6_all_0 23 rfl rfl
theorem dksX6_all_2 : cX6_all.data.toList.drop 47 = dktX6_all_2 := dk_seg dksX6_all_1 24 rfl rfl
theorem dX6_all_0 : decode cX6_all 0 = .ok (.iconst 1, 1) := dk_4 (dk_at dksX6_all_0 0 rfl rfl)
theorem dX6_all_1 : decode cX6_all 1 = .ok (.aload_n 0, 1) := dk_42 (dk_at dksX6_all_0 1 rfl rfl)
theorem dX6_all_2 : decode cX6_all 2 = .ok (.getfield 15, 3) := dk_180 0 15 (dk_at dksX6_all_0 2 rfl rfl)
theorem dX6_all_5 : decode cX6_all 5 = .ok (.iload_n 1, 1) := dk_27 (dk_at dksX6_all_0 5 rfl rfl)
theorem dX6_all_6 : decode cX6_all 6 = .ok (.iaload, 1) := dk_46 (dk_at dksX6_all_0 6 rfl rfl)
theorem dX6_all_7 : decode cX6_all 7 = .ok (.invokestatic 22, 3) := dk_184 0 22 (dk_at dksX6_all_0 7 rfl rfl)
theorem dX6_all_10 : decode cX6_all 10 = .ok (.invokestatic 28, 3) := dk_184 0 28 (dk_at dksX6_all_0 10 rfl rfl)
theorem dX6_all_13 : decode cX6_all 13 = .ok (.newarray .int, 2) := dk_188_10 (dk_at dksX6_all_0 13 rfl rfl)
theorem dX6_all_15 : decode cX6_all 15 = .ok (.astore_n 2, 1) := dk_77 (dk_at dksX6_all_0 15 rfl rfl)
theorem dX6_all_16 : decode cX6_all 16 = .ok (.iconst 0, 1) := dk_3 (dk_at dksX6_all_0 16 rfl rfl)
theorem dX6_all_17 : decode cX6_all 17 = .ok (.istore_n 3, 1) := dk_62 (dk_at dksX6_all_0 17 rfl rfl)
theorem dX6_all_18 : decode cX6_all 18 = .ok (.iconst 0, 1) := dk_3 (dk_at dksX6_all_0 18 rfl rfl)
theorem dX6_all_19 : decode cX6_all 19 = .ok (.istore 4, 2) := dk_54 4 (dk_at dksX6_all_0 19 rfl rfl)
theorem dX6_all_21 : decode cX6_all 21 = .ok (.iload 4, 2) := dk_21 4 (dk_at dksX6_all_0 21 rfl rfl)
theorem dX6_all_23 : decode cX6_all 23 = .ok (.bipush 18, 2) := dk_16 18 (dk_at dksX6_all_1 0 rfl rfl)
theorem dX6_all_25 : decode cX6_all 25 = .ok (.if_icmp .ge 34, 3) := dk_162 0 34 (dk_at dksX6_all_1 2 rfl rfl)
theorem dX6_all_28 : decode cX6_all 28 = .ok (.aload_n 0, 1) := dk_42 (dk_at dksX6_all_1 5 rfl rfl)
theorem dX6_all_29 : decode cX6_all 29 = .ok (.getfield 15, 3) := dk_180 0 15 (dk_at dksX6_all_1 6 rfl rfl)
theorem dX6_all_32 : decode cX6_all 32 = .ok (.iload_n 1, 1) := dk_27 (dk_at dksX6_all_1 9 rfl rfl)
theorem dX6_all_33 : decode cX6_all 33 = .ok (.iaload, 1) := dk_46 (dk_at dksX6_all_1 10 rfl rfl)
theorem dX6_all_34 : decode cX6_all 34 = .ok (.iload 4, 2) := dk_21 4 (dk_at dksX6_all_1 11 rfl rfl)
theorem dX6_all_36 : decode cX6_all 36 = .ok (.ishr, 1) := dk_122 (dk_at dksX6_all_1 13 rfl rfl)
theorem dX6_all_37 : decode cX6_all 37 = .ok (.iconst 1, 1) := dk_4 (dk_at dksX6_all_1 14 rfl rfl)
theorem dX6_all_38 : decode cX6_all 38 = .ok (.iand, 1) := dk_126 (dk_at dksX6_all_1 15 rfl rfl)
theorem dX6_all_39 : decode cX6_all 39 = .ok (.ifCond .ne 6, 3) := dk_154 0 6 (dk_at dksX6_all_1 16 rfl rfl)
theorem dX6_all_42 : decode cX6_all 42 = .ok (.goto 11, 3) := dk_167 0 11 (dk_at dksX6_all_1 19 rfl rfl)
theorem dX6_all_45 : decode cX6_all 45 = .ok (.aload_n 2, 1) := dk_44 (dk_at dksX6_all_1 22 rfl rfl)
theorem dX6_all_46 : decode cX6_all 46 = .ok (.iload_n 3, 1) := dk_29 (dk_at dksX6_all_1 23 rfl rfl)
theorem dX6_all_47 : decode cX6_all 47 = .ok (.iload 4, 2) := dk_21 4 (dk_at dksX6_all_2 0 rfl rfl)
theorem dX6_all_49 : decode cX6_all 49 = .ok (.iastore, 1) := dk_79 (dk_at dksX6_all_2 2 rfl rfl)
theorem dX6_all_50 : decode cX6_all 50 = .ok (.iinc 3 1, 3) := dk_132 3 1 (dk_at dksX6_all_2 3 rfl rfl)
theorem dX6_all_53 : decode cX6_all 53 = .ok (.iinc 4 1, 3) := dk_132 4 1 (dk_at dksX6_all_2 6 rfl rfl)
theorem dX6_all_56 : decode cX6_all 56 = .ok (.goto (-35), 3) := dk_167 255 221 (dk_at dksX6_all_2 9 rfl rfl)
theorem dX6_all_59 : decode cX6_all 59 = .ok (.aload_n 2, 1) := dk_44 (dk_at dksX6_all_2 12 rfl rfl)
theorem dX6_all_60 : decode cX6_all 60 = .ok (.areturn, 1) := dk_176 (dk_at dksX6_all_2 13 rfl rfl)
def dkwX6_init_1 : List UInt8 := [42, 180, 0, 9, 4, 28, 4, 126, 79, 42, 180, 0, 9, 5, 28, 4, 122, 79, 177]
abbrev dktX6_init_1 : List UInt8 := dkwX6_init_1 ++ []
def dkwX6_init_0 : List UInt8 := [42, 183, 0, 3, 42, 6, 188, 10, 181, 0, 9, 42, 16, 24, 188, 10, 181, 0, 15, 42, 27, 181, 0, 18]
abbrev dktX6_init_0 : List UInt8 := dkwX6_init_0 ++ dktX6_init_1
theorem dksX6_init_0 : cX6_init.data.toList.drop 0 = dktX6_init_0 := by decide +kernel
theorem dksX6_init_1 : cX6_init.data.toList.drop 24 = dktX6_init_1 := dk_seg dksX6_init_0 24 rfl rfl
theorem dX6_init_0 : decode cX6_init 0 = .ok (.aload_n 0, 1) := dk_42 (dk_at dksX6_init_0 0 rfl rfl)
theorem dX6_init_1 : decode cX6_init 1 = .ok (.invokespecial 3, 3) := dk_183 0 3 (dk_at dksX6_init_0 1 rfl rfl)
theorem dX6_init_4 : decode cX6_init 4 = .ok (.aload_n 0, 1) := dk_42 (dk_at dksX6_init_0 4 rfl rfl)
theorem dX6_init_5 : decode cX6_init 5 = .ok (.iconst 3, 1) := dk_6 (dk_at dksX6_init_0 5 rfl rfl)
theorem dX6_init_6 : decode cX6_init 6 = .ok (.newarray .int, 2) := dk_188_10 (dk_at dksX6_init_0 6 rfl rfl)
theorem dX6_init_8 : decode cX6_init 8 = .ok (.putfield 9, 3) := dk_181 0 9 (dk_at dksX6_init_0 8 rfl rfl)
theorem dX6_init_11 : decode cX6_init 11 = .ok (.aload_n 0, 1) := dk_42 (dk_at dksX6_init_0 11 rfl rfl)
theorem dX6_init_12 : decode cX6_init 12 = .ok (.bipush 24, 2) := dk_16 24 (dk_at dksX6_init_0 12 rfl rfl)
theorem dX6_init_14 : decode cX6_init 14 = .ok (.newarray .int, 2) := dk_188_10 (dk_at dksX6_init_0 14 rfl rfl)
theorem dX6_init_16 : decode cX6_init 16 = .ok (.putfield 15, 3) := dk_181 0 15 (dk_at dksX6_init_0 16 rfl rfl)
theorem dX6_init_19 : decode cX6_init 19 = .ok (.aload_n 0, 1) := dk_42 (dk_at dksX6_init_0 19 rfl rfl)
theorem dX6_init_20 : decode cX6_init 20 = .ok (.iload_n 1, 1) := dk_27 (dk_at dksX6_init_0 20 rfl rfl)
theorem dX6_init_21 : decode cX6_init 21 = .ok (.putfield 18, 3) := dk_181 0 18 (dk_at dksX6_init_0 21 rfl rfl)
theorem dX6_init_24 : decode cX6_init 24 = .ok (.aload_n 0, 1) := dk_42 (dk_at dksX6_init_1 0 rfl rfl)
theorem dX6_init_25 : decode cX6_init 25 = .ok (.getfield 9, 3) := dk_180 0 9 (dk_at dksX6_init_1 1 rfl rfl)
theorem dX6_init_28 : decode cX6_init 28 = .ok (.iconst 1, 1) := dk_4 (dk_at dksX6_init_1 4 rfl rfl)
theorem dX6_init_29 : decode cX6_init 29 = .ok (.iload_n 2, 1) := dk_28 (dk_at dksX6_init_1 5 rfl rfl)
theorem dX6_init_30 : decode cX6_init 30 = .ok (.iconst 1, 1) := dk_4 (dk_at dksX6_init_1 6 rfl rfl)
theorem dX6_init_31 : decode cX6_init 31 = .ok (.iand, 1) := dk_126 (dk_at dksX6_init_1 7 rfl rfl)
theorem dX6_init_32 : decode cX6_init 32 = .ok (.iastore, 1) := dk_79 (dk_at dksX6_init_1 8 rfl rfl)
theorem dX6_init_33 : decode cX6_init 33 = .ok (.aload_n 0, 1) := dk_42 (dk_at dksX6_init_1 9 rfl rfl)
theorem dX6_init_34 : decode cX6_init 34 = .ok (.getfield 9, 3) := dk_180 0 9 (dk_at dksX6_init_1 10 rfl rfl)
theorem dX6_init_37 : decode cX6_init 37 = .ok (.iconst 2, 1) := dk_5 (dk_at dksX6_init_1 13 rfl rfl)
theorem dX6_init_38 : decode cX6_init 38 = .ok (.iload_n 2, 1) := dk_28 (dk_at dksX6_init_1 14 rfl rfl)
theorem dX6_init_39 : decode cX6_init 39 = .ok (.iconst 1, 1) := dk_4 (dk_at dksX6_init_1 15 rfl rfl)
theorem dX6_init_40 : decode cX6_init 40 = .ok (.ishr, 1) := dk_122 (dk_at dksX6_init_1 16 rfl rfl)
theorem dX6_init_41 : decode cX6_init 41 = .ok (.iastore, 1) := dk_79 (dk_at dksX6_init_1 17 rfl rfl)
theorem dX6_init_42 : decode cX6_init 42 = .ok (.return_, 1) := dk_177 (dk_at dksX6_init_1 18 rfl rfl)
def dkwX6_place_1 : List UInt8 := [180, 0, 18, 172]
abbrev dktX6_place_1 : List UInt8 := dkwX6_place_1 ++ []
def dkwX6_place_0 : List UInt8 := [27, 16, 10, 161, 0, 10, 27, 16, 10, 100, 167, 0, 15, 27, 154, 0, 7, 2, 167, 0, 7, 42]
abbrev dktX6_place_0 : List UInt8 := dkwX6_place_0 ++ dktX6_place_1
theorem dksX6_place_0 : cX6_place.data.toList.drop 0 = dktX6_place_0 := by decide +kernel
theorem dksX6_place_1 : cX6_place.data.toList.drop 22 = dktX6_place_1 := dk_seg dksX6_place_0 22 rfl rfl
theorem dX6_place_0 : decode cX6_place 0 = .ok (.iload_n 1, 1) := dk_27 (dk_at dksX6_place_0 0 rfl rfl)
theorem dX6_place_1 : decode cX6_place 1 = .ok (.bipush 10, 2) := dk_16 10 (dk_at dksX6_place_0 1 rfl rfl)
theorem dX6_place_3 : decode cX6_place 3 = .ok (.if_icmp .lt 10, 3) := dk_161 0 10 (dk_at dksX6_place_0 3 rfl rfl)
theorem dX6_place_6 : decode cX6_place 6 = .ok (.iload_n 1, 1) := dk_27 (dk_at dksX6_place_0 6 rfl rfl)
theorem dX6_place_7 : decode cX6_place 7 = .ok (.bipush 10, 2) := dk_16 10 (dk_at dksX6_place_0 7 rfl rfl)
theorem dX6_place_9 : decode cX6_place 9 = .ok (.isub, 1) := dk_100 (dk_at dksX6_place_0 9 rfl rfl)
theorem dX6_place_10 : decode cX6_place 10 = .ok (.goto 15, 3) := dk_167 0 15 (dk_at dksX6_place_0 10 rfl rfl)
theorem dX6_place_13 : decode cX6_place 13 = .ok (.iload_n 1, 1) := dk_27 (dk_at dksX6_place_0 13 rfl rfl)
theorem dX6_place_14 : decode cX6_place 14 = .ok (.ifCond .ne 7, 3) := dk_154 0 7 (dk_at dksX6_place_0 14 rfl rfl)
theorem dX6_place_17 : decode cX6_place 17 = .ok (.iconst (-1), 1) := dk_2 (dk_at dksX6_place_0 17 rfl rfl)
theorem dX6_place_18 : decode cX6_place 18 = .ok (.goto 7, 3) := dk_167 0 7 (dk_at dksX6_place_0 18 rfl rfl)
theorem dX6_place_21 : decode cX6_place 21 = .ok (.aload_n 0, 1) := dk_42 (dk_at dksX6_place_0 21 rfl rfl)
theorem dX6_place_22 : decode cX6_place 22 = .ok (.getfield 18, 3) := dk_180 0 18 (dk_at dksX6_place_1 0 rfl rfl)
theorem dX6_place_25 : decode cX6_place 25 = .ok (.ireturn, 1) := dk_172 (dk_at dksX6_place_1 3 rfl rfl)
def dkwX7_init_0 : List UInt8 := [42, 183, 0, 1, 42, 27, 181, 0, 7, 42, 28, 181, 0, 13, 42, 29, 181, 0, 16, 177]
abbrev dktX7_init_0 : List UInt8 := dkwX7_init_0 ++ []
theorem dksX7_init_0 : cX7_init.data.toList.drop 0 = dktX7_init_0 := by decide +kernel
theorem dX7_init_0 : decode cX7_init 0 = .ok (.aload_n 0, 1) := dk_42 (dk_at dksX7_init_0 0 rfl rfl)
theorem dX7_init_1 : decode cX7_init 1 = .ok (.invokespecial 1, 3) := dk_183 0 1 (dk_at dksX7_init_0 1 rfl rfl)
theorem dX7_init_4 : decode cX7_init 4 = .ok (.aload_n 0, 1) := dk_42 (dk_at dksX7_init_0 4 rfl rfl)
theorem dX7_init_5 : decode cX7_init 5 = .ok (.iload_n 1, 1) := dk_27 (dk_at dksX7_init_0 5 rfl rfl)
theorem dX7_init_6 : decode cX7_init 6 = .ok (.putfield 7, 3) := dk_181 0 7 (dk_at dksX7_init_0 6 rfl rfl)
theorem dX7_init_9 : decode cX7_init 9 = .ok (.aload_n 0, 1) := dk_42 (dk_at dksX7_init_0 9 rfl rfl)
theorem dX7_init_10 : decode cX7_init 10 = .ok (.iload_n 2, 1) := dk_28 (dk_at dksX7_init_0 10 rfl rfl)
theorem dX7_init_11 : decode cX7_init 11 = .ok (.putfield 13, 3) := dk_181 0 13 (dk_at dksX7_init_0 11 rfl rfl)
theorem dX7_init_14 : decode cX7_init 14 = .ok (.aload_n 0, 1) := dk_42 (dk_at dksX7_init_0 14 rfl rfl)
theorem dX7_init_15 : decode cX7_init 15 = .ok (.iload_n 3, 1) := dk_29 (dk_at dksX7_init_0 15 rfl rfl)
theorem dX7_init_16 : decode cX7_init 16 = .ok (.putfield 16, 3) := dk_181 0 16 (dk_at dksX7_init_0 16 rfl rfl)
theorem dX7_init_19 : decode cX7_init 19 = .ok (.return_, 1) := dk_177 (dk_at dksX7_init_0 19 rfl rfl)
def dkwX8_init_12 : List UInt8 := [17, 15, 160, 164, 0, 9, 42, 16, 254, 181, 0, 21, 177]
abbrev dktX8_init_12 : List UInt8 := dkwX8_init_12 ++ []
def dkwX8_init_11 : List UInt8 := [25, 4, 21, 6, 46, 6, 159, 0, 8, 42, 3, 181, 0, 21, 132, 6, 1, 167, 255, 204, 21, 5]
abbrev dktX8_init_11 : List UInt8 := dkwX8_init_11 ++ dktX8_init_12
def dkwX8_init_10 : List UInt8 := [29, 21, 6, 122, 4, 126, 4, 160, 0, 30, 43, 180, 0, 46, 21, 6, 182, 0, 55, 2, 160, 0, 17]
abbrev dktX8_init_10 : List UInt8 := dkwX8_init_10 ++ dktX8_init_11
def dkwX8_init_9 : List UInt8 := [181, 0, 21, 132, 6, 1, 167, 255, 73, 3, 54, 6, 21, 6, 43, 180, 0, 46, 180, 0, 50, 162, 0, 46]
abbrev dktX8_init_9 : List UInt8 := dkwX8_init_9 ++ dktX8_init_10
def dkwX8_init_8 : List UInt8 := [132, 11, 1, 167, 255, 231, 21, 5, 25, 7, 190, 104, 54, 5, 42, 89, 180, 0, 21, 21, 8, 104]
abbrev dktX8_init_8 : List UInt8 := dkwX8_init_8 ++ dktX8_init_9
def dkwX8_init_7 : List UInt8 := [21, 11, 21, 8, 162, 0, 24, 42, 180, 0, 17, 21, 6, 50, 21, 11, 25, 9, 21, 11, 46, 79]
abbrev dktX8_init_7 : List UInt8 := dkwX8_init_7 ++ dktX8_init_8
def dkwX8_init_6 : List UInt8 := [79, 132, 8, 1, 132, 11, 1, 167, 255, 198, 42, 180, 0, 17, 21, 6, 21, 8, 188, 10, 83, 3, 54, 11]
abbrev dktX8_init_6 : List UInt8 := dkwX8_init_6 ++ dktX8_init_7
def dkwX8_init_5 : List UInt8 := [21, 6, 182, 0, 29, 180, 0, 39, 46, 159, 0, 6, 167, 0, 16, 25, 9, 21, 8, 25, 7, 21, 11, 46]
abbrev dktX8_init_5 : List UInt8 := dkwX8_init_5 ++ dktX8_init_6
def dkwX8_init_4 : List UInt8 := [190, 162, 0, 56, 21, 10, 153, 0, 32, 43, 21, 6, 25, 7, 21, 11, 46, 182, 0, 42, 25, 4, 43]
abbrev dktX8_init_4 : List UInt8 := dkwX8_init_4 ++ dktX8_init_5
def dkwX8_init_3 : List UInt8 := [180, 0, 39, 122, 4, 126, 4, 160, 0, 7, 4, 167, 0, 4, 3, 54, 10, 3, 54, 11, 21, 11, 25, 7]
abbrev dktX8_init_3 : List UInt8 := dkwX8_init_3 ++ dktX8_init_4
def dkwX8_init_2 : List UInt8 := [182, 0, 33, 58, 7, 3, 54, 8, 25, 7, 190, 188, 10, 58, 9, 29, 43, 21, 6, 182, 0, 29]
abbrev dktX8_init_2 : List UInt8 := dkwX8_init_2 ++ dktX8_init_3
def dkwX8_init_1 : List UInt8 := [181, 0, 21, 3, 54, 6, 21, 6, 43, 182, 0, 25, 162, 0, 180, 43, 21, 6, 182, 0, 29, 28]
abbrev dktX8_init_1 : List UInt8 := dkwX8_init_1 ++ dktX8_init_2
def dkwX8_init_0 : List UInt8 := [42, 43, 181, 0, 3, 42, 183, 0, 9, 42, 16, 6, 189, 0, 15, 181, 0, 17, 4, 54, 5, 42, 4]
abbrev dktX8_init_0 : List UInt8 := dkwX8_init_0 ++ dktX8_init_1
theorem dksX8_init_0 : cX8_init.data.toList.drop 0 = dktX8_init_0 := by decide +kernel
theorem dksX8_init_1 : cX8_init.data.toList.drop 23 = dktX8_init_1 := dk_seg dksX8_init_0 23 rfl rfl
theorem dksX8_init_2 : cX8_init.data.toList.drop 45 = dktX8_init_2 := dk_seg dksX8_init_1 22 rfl rfl
theorem dksX8_init_3 : cX8_init.data.toList.drop 67 = dktX8_init_3 := dk_seg dksX8_init_2 22 rfl rfl
theorem dksX8_init_4 : cX8_init.data.toList.drop 91 = dktX8_init_4 := dk_seg dksX8_init_3 24 rfl rfl
theorem dksX8_init_5 : cX8_init.data.toList.drop 114 = dktX8_init_5 := dk_seg dksX8_init_4 23 rfl rfl
theorem dksX8_init_6 : cX8_init.data.toList.drop 138 = dktX8_init_6 := dk_seg dksX8_init_5 24 rfl rfl
theorem dksX8_init_7 : cX8_init.data.toList.drop 162 = dktX8_init_7 := dk_seg dksX8_init_6 24 rfl rfl
theorem dksX8_init_8 : cX8_init.data.toList.drop 184 = dktX8_init_8 := dk_seg dksX8_init_7 22 rfl rfl
theorem dksX8_init_9 : cX8_init.data.toList.drop 206 = dktX8_init_9 := dk_seg dksX8_init_8 22 rfl rfl
theorem dksX8_init_10 : cX8_init.data.toList.drop 230 = dktX8_init_10 := dk_seg dksX8_init_9 24 rfl rfl
theorem dksX8_init_11 : cX8_init.data.toList.drop 253 = dktX8_init_11 := dk_seg dksX8_init_10 23 rfl rfl
theorem dksX8_init_12 : cX8_init.data.toList.drop 275 = dktX8_init_12 := dk_seg dksX8_init_11 22 rfl rfl
theorem dX8_init_0 : decode cX8_init 0 = .ok (.aload_n 0, 1) := dk_42 (dk_at dksX8_init_0 0 rfl rfl)
theorem dX8_init_1 : decode cX8_init 1 = .ok (.aload_n 1, 1) := dk_43 (dk_at dksX8_init_0 1 rfl rfl)
theorem dX8_init_2 : decode cX8_init 2 = .ok (.putfield 3, 3) := dk_181 0 3 (dk_at dksX8_init_0 2 rfl rfl)
theorem dX8_init_5 : decode cX8_init 5 = .ok (.aload_n 0, 1) := dk_42 (dk_at dksX8_init_0 5 rfl rfl)
theorem dX8_init_6 : decode cX8_init 6 = .ok (.invokespecial 9, 3) := dk_183 0 9 (dk_at dksX8_init_0 6 rfl rfl)
theorem dX8_init_9 : decode cX8_init 9 = .ok (.aload_n 0, 1) := dk_42 (dk_at dksX8_init_0 9 rfl rfl)
theorem dX8_init_10 : decode cX8_init 10 = .ok (.bipush 6, 2) := dk_16 6 (dk_at dksX8_init_0 10 rfl rfl)
theorem dX8_init_12 : decode cX8_init 12 = .ok (.anewarray 15, 3) := dk_189 0 15 (dk_at dksX8_init_0 12 rfl rfl)
theorem dX8_init_15 : decode cX8_init 15 = .ok (.putfield 17, 3) := dk_181 0 17 (dk_at dksX8_init_0 15 rfl rfl)
theorem dX8_init_18 : decode cX8_init 18 = .ok (.iconst 1, 1) := dk_4 (dk_at dksX8_init_0 18 rfl rfl)
theorem dX8_init_19 : decode cX8_init 19 = .ok (.istore 5, 2) := dk_54 5 (dk_at dksX8_init_0 19 rfl rfl)
theorem dX8_init_21 : decode cX8_init 21 = .ok (.aload_n 0, 1) := dk_42 (dk_at dksX8_init_0 21 rfl rfl)
theorem dX8_init_22 : decode cX8_init 22 = .ok (.iconst 1, 1) := dk_4 (dk_at dksX8_init_0 22 rfl rfl)
theorem dX8_init_23 : decode cX8_init 23 = .ok (.putfield 21, 3) := dk_181 0 21 (dk_at dksX8_init_1 0 rfl rfl)
theorem dX8_init_26 : decode cX8_init 26 = .ok (.iconst 0, 1) := dk_3 (dk_at dksX8_init_1 3 rfl rfl)
theorem dX8_init_27 : decode cX8_init 27 = .ok (.istore 6, 2) := dk_54 6 (dk_at dksX8_init_1 4 rfl rfl)
theorem dX8_init_29 : decode cX8_init 29 = .ok (.iload 6, 2) := dk_21 6 (dk_at dksX8_init_1 6 rfl rfl)
theorem dX8_init_31 : decode cX8_init 31 = .ok (.aload_n 1, 1) := dk_43 (dk_at dksX8_init_1 8 rfl rfl)
theorem dX8_init_32 : decode cX8_init 32 = .ok (.invokevirtual 25, 3) := dk_182 0 25 (dk_at dksX8_init_1 9 rfl rfl)
theorem dX8_init_35 : decode cX8_init 35 = .ok (.if_icmp .ge 180, 3) := dk_162 0 180 (dk_at dksX8_init_1 12 rfl rfl)
theorem dX8_init_38 : decode cX8_init 38 = .ok (.aload_n 1, 1) := dk_43 (dk_at dksX8_init_1 15 rfl rfl)
theorem dX8_init_39 : decode cX8_init 39 = .ok (.iload 6, 2) := dk_21 6 (dk_at dksX8_init_1 16 rfl rfl)
theorem dX8_init_41 : decode cX8_init 41 = .ok (.invokevirtual 29, 3) := dk_182 0 29 (dk_at dksX8_init_1 18 rfl rfl)
theorem dX8_init_44 : decode cX8_init 44 = .ok (.iload_n 2, 1) := dk_28 (dk_at dksX8_init_1 21 rfl rfl)
theorem dX8_init_45 : decode cX8_init 45 = .ok (.invokevirtual 33, 3) := dk_182 0 33 (dk_at dksX8_init_2 0 rfl rfl)
theorem dX8_init_48 : decode cX8_init 48 = .ok (.astore 7, 2) := dk_58 7 (dk_at dksX8_init_2 3 rfl rfl)
theorem dX8_init_50 : decode cX8_init 50 = .ok (.iconst 0, 1) := dk_3 (dk_at dksX8_init_2 5 rfl rfl)
theorem dX8_init_51 : decode cX8_init 51 = .ok (.istore 8, 2) := dk_54 8 (dk_at dksX8_init_2 6 rfl rfl)
theorem dX8_init_53 : decode cX8_init 53 = .ok (.aload 7, 2) := dk_25 7 (dk_at dksX8_init_2 8 rfl rfl)
theorem dX8_init_55 : decode cX8_init 55 = .ok (.arraylength, 1) := dk_190 (dk_at dksX8_init_2 10 rfl rfl)
theorem dX8_init_56 : decode cX8_init 56 = .ok (.newarray .int, 2) := dk_188_10 (dk_at dksX8_init_2 11 rfl rfl)
theorem dX8_init_58 : decode cX8_init 58 = .ok (.astore 9, 2) := dk_58 9 (dk_at dksX8_init_2 13 rfl rfl)
theorem dX8_init_60 : decode cX8_init 60 = .ok (.iload_n 3, 1) := dk_29 (dk_at dksX8_init_2 15 rfl rfl)
theorem dX8_init_61 : decode cX8_init 61 = .ok (.aload_n 1, 1) := dk_43 (dk_at dksX8_init_2 16 rfl rfl)
theorem dX8_init_62 : decode cX8_init 62 = .ok (.iload 6, 2) := dk_21 6 (dk_at dksX8_init_2 17 rfl rfl)
theorem dX8_init_64 : decode cX8_init 64 = .ok (.invokevirtual 29, 3) := dk_182 0 29 (dk_at dksX8_init_2 19 rfl rfl)
theorem dX8_init_67 : decode cX8_init 67 = .ok (.getfield 39, 3) := dk_180 0 39 (dk_at dksX8_init_3 0 rfl rfl)
theorem dX8_init_70 : decode cX8_init 70 = .ok (.ishr, 1) := dk_122 (dk_at dksX8_init_3 3 rfl rfl)
theorem dX8_init_71 : decode cX8_init 71 = .ok (.iconst 1, 1) := dk_4 (dk_at dksX8_init_3 4 rfl rfl)
theorem dX8_init_72 : decode cX8_init 72 = .ok (.iand, 1) := dk_126 (dk_at dksX8_init_3 5 rfl rfl)
theorem dX8_init_73 : decode cX8_init 73 = .ok (.iconst 1, 1) := dk_4 (dk_at dksX8_init_3 6 rfl rfl)
theorem dX8_init_74 : decode cX8_init 74 = .ok (.if_icmp .ne 7, 3) := dk_160 0 7 (dk_at dksX8_init_3 7 rfl rfl)
theorem dX8_init_77 : decode cX8_init 77 = .ok (.iconst 1, 1) := dk_4 (dk_at dksX8_init_3 10 rfl rfl)
theorem dX8_init_78 : decode cX8_init 78 = .ok (.goto 4, 3) := dk_167 0 4 (dk_at dksX8_init_3 11 rfl rfl)
theorem dX8_init_81 : decode cX8_init 81 = .ok (.iconst 0, 1) := dk_3 (dk_at dksX8_init_3 14 rfl rfl)
theorem dX8_init_82 : decode cX8_init 82 = .ok (.istore 10, 2) := dk_54 10 (dk_at dksX8_init_3 15 rfl rfl)
theorem dX8_init_84 : decode cX8_init 84 = .ok (.iconst 0, 1) := dk_3 (dk_at dksX8_init_3 17 rfl rfl)
theorem dX8_init_85 : decode cX8_init 85 = .ok (.istore 11, 2) := dk_54 11 (dk_at dksX8_init_3 18 rfl rfl)
theorem dX8_init_87 : decode cX8_init 87 = .ok (.iload 11, 2) := dk_21 11 (dk_at dksX8_init_3 20 rfl rfl)
theorem dX8_init_89 : decode cX8_init 89 = .ok (.aload 7, 2) := dk_25 7 (dk_at dksX8_init_3 22 rfl rfl)
theorem dX8_init_91 : decode cX8_init 91 = .ok (.arraylength, 1) := dk_190 (dk_at dksX8_init_4 0 rfl rfl)
theorem dX8_init_92 : decode cX8_init 92 = .ok (.if_icmp .ge 56, 3) := dk_162 0 56 (dk_at dksX8_init_4 1 rfl rfl)
theorem dX8_init_95 : decode cX8_init 95 = .ok (.iload 10, 2) := dk_21 10 (dk_at dksX8_init_4 4 rfl rfl)
theorem dX8_init_97 : decode cX8_init 97 = .ok (.ifCond .eq 32, 3) := dk_153 0 32 (dk_at dksX8_init_4 6 rfl rfl)
theorem dX8_init_100 : decode cX8_init 100 = .ok (.aload_n 1, 1) := dk_43 (dk_at dksX8_init_4 9 rfl rfl)
theorem dX8_init_101 : decode cX8_init 101 = .ok (.iload 6, 2) := dk_21 6 (dk_at dksX8_init_4 10 rfl rfl)
theorem dX8_init_103 : decode cX8_init 103 = .ok (.aload 7, 2) := dk_25 7 (dk_at dksX8_init_4 12 rfl rfl)
theorem dX8_init_105 : decode cX8_init 105 = .ok (.iload 11, 2) := dk_21 11 (dk_at dksX8_init_4 14 rfl rfl)
theorem dX8_init_107 : decode cX8_init 107 = .ok (.iaload, 1) := dk_46 (dk_at dksX8_init_4 16 rfl rfl)
theorem dX8_init_108 : decode cX8_init 108 = .ok (.invokevirtual 42, 3) := dk_182 0 42 (dk_at dksX8_init_4 17 rfl rfl)
theorem dX8_init_111 : decode cX8_init 111 = .ok (.aload 4, 2) := dk_25 4 (dk_at dksX8_init_4 20 rfl rfl)
theorem dX8_init_113 : decode cX8_init 113 = .ok (.aload_n 1, 1) := dk_43 (dk_at dksX8_init_4 22 rfl rfl)
theorem dX8_init_114 : decode cX8_init 114 = .ok (.iload 6, 2) := dk_21 6 (dk_at dksX8_init_5 0 rfl rfl)
theorem dX8_init_116 : decode cX8_init 116 = .ok (.invokevirtual 29, 3) := dk_182 0 29 (dk_at dksX8_init_5 2 rfl rfl)
theorem dX8_init_119 : decode cX8_init 119 = .ok (.getfield 39, 3) := dk_180 0 39 (dk_at dksX8_init_5 5 rfl rfl)
theorem dX8_init_122 : decode cX8_init 122 = .ok (.iaload, 1) := dk_46 (dk_at dksX8_init_5 8 rfl rfl)
theorem dX8_init_123 : decode cX8_init 123 = .ok (.if_icmp .eq 6, 3) := dk_159 0 6 (dk_at dksX8_init_5 9 rfl rfl)
theorem dX8_init_126 : decode cX8_init 126 = .ok (.goto 16, 3) := dk_167 0 16 (dk_at dksX8_init_5 12 rfl rfl)
theorem dX8_init_129 : decode cX8_init 129 = .ok (.aload 9, 2) := dk_25 9 (dk_at dksX8_init_5 15 rfl rfl)
theorem dX8_init_131 : decode cX8_init 131 = .ok (.iload 8, 2) := dk_21 8 (dk_at dksX8_init_5 17 rfl rfl)
theorem dX8_init_133 : decode cX8_init 133 = .ok (.aload 7, 2) := dk_25 7 (dk_at dksX8_init_5 19 rfl rfl)
theorem dX8_init_135 : decode cX8_init 135 = .ok (.iload 11, 2) := dk_21 11 (dk_at dksX8_init_5 21 rfl rfl)
theorem dX8_init_137 : decode cX8_init 137 = .ok (.iaload, 1) := dk_46 (dk_at dksX8_init_5 23 rfl rfl)
theorem dX8_init_138 : decode cX8_init 138 = .ok (.iastore, 1) := dk_79 (dk_at dksX8_init_6 0 rfl rfl)
theorem dX8_init_139 : decode cX8_init 139 = .ok (.iinc 8 1, 3) := dk_132 8 1 (dk_at dksX8_init_6 1 rfl rfl)
theorem dX8_init_142 : decode cX8_init 142 = .ok (.iinc 11 1, 3) := dk_132 11 1 (dk_at dksX8_init_6 4 rfl rfl)
theorem dX8_init_145 : decode cX8_init 145 = .ok (.goto (-58), 3) := dk_167 255 198 (dk_at dksX8_init_6 7 rfl rfl)
theorem dX8_init_148 : decode cX8_init 148 = .ok (.aload_n 0, 1) := dk_42 (dk_at dksX8_init_6 10 rfl rfl)
theorem dX8_init_149 : decode cX8_init 149 = .ok (.getfield 17, 3) := dk_180 0 17 (dk_at dksX8_init_6 11 rfl rfl)
theorem dX8_init_152 : decode cX8_init 152 = .ok (.iload 6, 2) := dk_21 6 (dk_at dksX8_init_6 14 rfl rfl)
theorem dX8_init_154 : decode cX8_init 154 = .ok (.iload 8, 2) := dk_21 8 (dk_at dksX8_init_6 16 rfl rfl)
theorem dX8_init_156 : decode cX8_init 156 = .ok (.newarray .int, 2) := dk_188_10 (dk_at dksX8_init_6 18 rfl rfl)
theorem dX8_init_158 : decode cX8_init 158 = .ok (.aastore, 1) := dk_83 (dk_at dksX8_init_6 20 rfl rfl)
theorem dX8_init_159 : decode cX8_init 159 = .ok (.iconst 0, 1) := dk_3 (dk_at dksX8_init_6 21 rfl rfl)
theorem dX8_init_160 : decode cX8_init 160 = .ok (.istore 11, 2) := dk_54 11 (dk_at dksX8_init_6 22 rfl rfl)
theorem dX8_init_162 : decode cX8_init 162 = .ok (.iload 11, 2) := dk_21 11 (dk_at dksX8_init_7 0 rfl rfl)
theorem dX8_init_164 : decode cX8_init 164 = .ok (.iload 8, 2) := dk_21 8 (dk_at dksX8_init_7 2 rfl rfl)
theorem dX8_init_166 : decode cX8_init 166 = .ok (.if_icmp .ge 24, 3) := dk_162 0 24 (dk_at dksX8_init_7 4 rfl rfl)
theorem dX8_init_169 : decode cX8_init 169 = .ok (.aload_n 0, 1) := dk_42 (dk_at dksX8_init_7 7 rfl rfl)
theorem dX8_init_170 : decode cX8_init 170 = .ok (.getfield 17, 3) := dk_180 0 17 (dk_at dksX8_init_7 8 rfl rfl)
theorem dX8_init_173 : decode cX8_init 173 = .ok (.iload 6, 2) := dk_21 6 (dk_at dksX8_init_7 11 rfl rfl)
theorem dX8_init_175 : decode cX8_init 175 = .ok (.aaload, 1) := dk_50 (dk_at dksX8_init_7 13 rfl rfl)
theorem dX8_init_176 : decode cX8_init 176 = .ok (.iload 11, 2) := dk_21 11 (dk_at dksX8_init_7 14 rfl rfl)
theorem dX8_init_178 : decode cX8_init 178 = .ok (.aload 9, 2) := dk_25 9 (dk_at dksX8_init_7 16 rfl rfl)
theorem dX8_init_180 : decode cX8_init 180 = .ok (.iload 11, 2) := dk_21 11 (dk_at dksX8_init_7 18 rfl rfl)
theorem dX8_init_182 : decode cX8_init 182 = .ok (.iaload, 1) := dk_46 (dk_at dksX8_init_7 20 rfl rfl)
theorem dX8_init_183 : decode cX8_init 183 = .ok (.iastore, 1) := dk_79 (dk_at dksX8_init_7 21 rfl rfl)
theorem dX8_init_184 : decode cX8_init 184 = .ok (.iinc 11 1, 3) := dk_132 11 1 (dk_at dksX8_init_8 0 rfl rfl)
theorem dX8_init_187 : decode cX8_init 187 = .ok (.goto (-25), 3) := dk_167 255 231 (dk_at dksX8_init_8 3 rfl rfl)
theorem dX8_init_190 : decode cX8_init 190 = .ok (.iload 5, 2) := dk_21 5 (dk_at dksX8_init_8 6 rfl rfl)
theorem dX8_init_192 : decode cX8_init 192 = .ok (.aload 7, 2) := dk_25 7 (dk_at dksX8_init_8 8 rfl rfl)
theorem dX8_init_194 : decode cX8_init 194 = .ok (.arraylength, 1) := dk_190 (dk_at dksX8_init_8 10 rfl rfl)
theorem dX8_init_195 : decode cX8_init 195 = .ok (.imul, 1) := dk_104 (dk_at dksX8_init_8 11 rfl rfl)
theorem dX8_init_196 : decode cX8_init 196 = .ok (.istore 5, 2) := dk_54 5 (dk_at dksX8_init_8 12 rfl rfl)
theorem dX8_init_198 : decode cX8_init 198 = .ok (.aload_n 0, 1) := dk_42 (dk_at dksX8_init_8 14 rfl rfl)
theorem dX8_init_199 : decode cX8_init 199 = .ok (.dup, 1) := dk_89 (dk_at dksX8_init_8 15 rfl rfl)
theorem dX8_init_200 : decode cX8_init 200 = .ok (.getfield 21, 3) := dk_180 0 21 (dk_at dksX8_init_8 16 rfl rfl)
theorem dX8_init_203 : decode cX8_init 203 = .ok (.iload 8, 2) := dk_21 8 (dk_at dksX8_init_8 19 rfl rfl)
theorem dX8_init_205 : decode cX8_init 205 = .ok (.imul, 1) := dk_104 (dk_at dksX8_init_8 21 rfl rfl)
theorem dX8_init_206 : decode cX8_init 206 = .ok (.putfield 21, 3) := dk_181 0 21 (dk_at dksX8_init_9 0 rfl rfl)
theorem dX8_init_209 : decode cX8_init 209 = .ok (.iinc 6 1, 3) := dk_132 6 1 (dk_at dksX8_init_9 3 rfl rfl)
theorem dX8_init_212 : decode cX8_init 212 = .ok (.goto (-183), 3) := dk_167 255 73 (dk_at dksX8_init_9 6 rfl rfl)
theorem dX8_init_215 : decode cX8_init 215 = .ok (.iconst 0, 1) := dk_3 (dk_at dksX8_init_9 9 rfl rfl)
theorem dX8_init_216 : decode cX8_init 216 = .ok (.istore 6, 2) := dk_54 6 (dk_at dksX8_init_9 10 rfl rfl)
theorem dX8_init_218 : decode cX8_init 218 = .ok (.iload 6, 2) := dk_21 6 (dk_at dksX8_init_9 12 rfl rfl)
theorem dX8_init_220 : decode cX8_init 220 = .ok (.aload_n 1, 1) := dk_43 (dk_at dksX8_init_9 14 rfl rfl)
theorem dX8_init_221 : decode cX8_init 221 = .ok (.getfield 46, 3) := dk_180 0 46 (dk_at dksX8_init_9 15 rfl rfl)
theorem dX8_init_224 : decode cX8_init 224 = .ok (.getfield 50, 3) := dk_180 0 50 (dk_at dksX8_init_9 18 rfl rfl)
theorem dX8_init_227 : decode cX8_init 227 = .ok (.if_icmp .ge 46, 3) := dk_162 0 46 (dk_at dksX8_init_9 21 rfl rfl)
theorem dX8_init_230 : decode cX8_init 230 = .ok (.iload_n 3, 1) := dk_29 (dk_at dksX8_init_10 0 rfl rfl)
theorem dX8_init_231 : decode cX8_init 231 = .ok (.iload 6, 2) := dk_21 6 (dk_at dksX8_init_10 1 rfl rfl)
theorem dX8_init_233 : decode cX8_init 233 = .ok (.ishr, 1) := dk_122 (dk_at dksX8_init_10 3 rfl rfl)
theorem dX8_init_234 : decode cX8_init 234 = .ok (.iconst 1, 1) := dk_4 (dk_at dksX8_init_10 4 rfl rfl)
theorem dX8_init_235 : decode cX8_init 235 = .ok (.iand, 1) := dk_126 (dk_at dksX8_init_10 5 rfl rfl)
theorem dX8_init_236 : decode cX8_init 236 = .ok (.iconst 1, 1) := dk_4 (dk_at dksX8_init_10 6 rfl rfl)
theorem dX8_init_237 : decode cX8_init 237 = .ok (.if_icmp .ne 30, 3) := dk_160 0 30 (dk_at dksX8_init_10 7 rfl rfl)
theorem dX8_init_240 : decode cX8_init 240 = .ok (.aload_n 1, 1) := dk_43 (dk_at dksX8_init_10 10 rfl rfl)
theorem dX8_init_241 : decode cX8_init 241 = .ok (.getfield 46, 3) := dk_180 0 46 (dk_at dksX8_init_10 11 rfl rfl)
theorem dX8_init_244 : decode cX8_init 244 = .ok (.iload 6, 2) := dk_21 6 (dk_at dksX8_init_10 14 rfl rfl)
theorem dX8_init_246 : decode cX8_init 246 = .ok (.invokevirtual 55, 3) := dk_182 0 55 (dk_at dksX8_init_10 16 rfl rfl)
theorem dX8_init_249 : decode cX8_init 249 = .ok (.iconst (-1), 1) := dk_2 (dk_at dksX8_init_10 19 rfl rfl)
theorem dX8_init_250 : decode cX8_init 250 = .ok (.if_icmp .ne 17, 3) := dk_160 0 17 (dk_at dksX8_init_10 20 rfl rfl)
theorem dX8_init_253 : decode cX8_init 253 = .ok (.aload 4, 2) := dk_25 4 (dk_at dksX8_init_11 0 rfl rfl)
theorem dX8_init_255 : decode cX8_init 255 = .ok (.iload 6, 2) := dk_21 6 (dk_at dksX8_init_11 2 rfl rfl)
theorem dX8_init_257 : decode cX8_init 257 = .ok (.iaload, 1) := dk_46 (dk_at dksX8_init_11 4 rfl rfl)
theorem dX8_init_258 : decode cX8_init 258 = .ok (.iconst 3, 1) := dk_6 (dk_at dksX8_init_11 5 rfl rfl)
theorem dX8_init_259 : decode cX8_init 259 = .ok (.if_icmp .eq 8, 3) := dk_159 0 8 (dk_at dksX8_init_11 6 rfl rfl)
theorem dX8_init_262 : decode cX8_init 262 = .ok (.aload_n 0, 1) := dk_42 (dk_at dksX8_init_11 9 rfl rfl)
theorem dX8_init_263 : decode cX8_init 263 = .ok (.iconst 0, 1) := dk_3 (dk_at dksX8_init_11 10 rfl rfl)
theorem dX8_init_264 : decode cX8_init 264 = .ok (.putfield 21, 3) := dk_181 0 21 (dk_at dksX8_init_11 11 rfl rfl)
theorem dX8_init_267 : decode cX8_init 267 = .ok (.iinc 6 1, 3) := dk_132 6 1 (dk_at dksX8_init_11 14 rfl rfl)
theorem dX8_init_270 : decode cX8_init 270 = .ok (.goto (-52), 3) := dk_167 255 204 (dk_at dksX8_init_11 17 rfl rfl)
theorem dX8_init_273 : decode cX8_init 273 = .ok (.iload 5, 2) := dk_21 5 (dk_at dksX8_init_11 20 rfl rfl)
theorem dX8_init_275 : decode cX8_init 275 = .ok (.sipush 4000, 3) := dk_17 15 160 (dk_at dksX8_init_12 0 rfl rfl)
theorem dX8_init_278 : decode cX8_init 278 = .ok (.if_icmp .le 9, 3) := dk_164 0 9 (dk_at dksX8_init_12 3 rfl rfl)
theorem dX8_init_281 : decode cX8_init 281 = .ok (.aload_n 0, 1) := dk_42 (dk_at dksX8_init_12 6 rfl rfl)
theorem dX8_init_282 : decode cX8_init 282 = .ok (.bipush (-2), 2) := dk_16 254 (dk_at dksX8_init_12 7 rfl rfl)
theorem dX8_init_284 : decode cX8_init 284 = .ok (.putfield 21, 3) := dk_181 0 21 (dk_at dksX8_init_12 9 rfl rfl)
theorem dX8_init_287 : decode cX8_init 287 = .ok (.return_, 1) := dk_177 (dk_at dksX8_init_12 12 rfl rfl)
def dkwX8_does_2 : List UInt8 := [50, 190, 112, 46, 172]
abbrev dktX8_does_2 : List UInt8 := dkwX8_does_2 ++ []
def dkwX8_does_1 : List UInt8 := [21, 4, 50, 190, 108, 62, 132, 4, 255, 167, 255, 236, 42, 180, 0, 17, 28, 50, 29, 42, 180, 0, 17, 28]
abbrev dktX8_does_1 : List UInt8 := dkwX8_does_1 ++ dktX8_does_2
def dkwX8_does_0 : List UInt8 := [27, 62, 42, 180, 0, 3, 182, 0, 25, 4, 100, 54, 4, 21, 4, 28, 164, 0, 20, 29, 42, 180, 0, 17]
abbrev dktX8_does_0 : List UInt8 := dkwX8_does_0 ++ dktX8_does_1
theorem dksX8_does_0 : cX8_does.data.toList.drop 0 = dktX8_does_0 := by decide +kernel
theorem dksX8_does_1 : cX8_does.data.toList.drop 24 = dktX8_does_1 := dk_seg dksX8_does_0 24 rfl rfl
theorem dksX8_does_2 : cX8_does.data.toList.drop 48 = dktX8_does_2 := dk_seg dksX8_does_1 24 rfl rfl
theorem dX8_does_0 : decode cX8_does 0 = .ok (.iload_n 1, 1) := dk_27 (dk_at dksX8_does_0 0 rfl rfl)
theorem dX8_does_1 : decode cX8_does 1 = .ok (.istore_n 3, 1) := dk_62 (dk_at dksX8_does_0 1 rfl rfl)
theorem dX8_does_2 : decode cX8_does 2 = .ok (.aload_n 0, 1) := dk_42 (dk_at dksX8_does_0 2 rfl rfl)
theorem dX8_does_3 : decode cX8_does 3 = .ok (.getfield 3, 3) := dk_180 0 3 (dk_at dksX8_does_0 3 rfl rfl)
theorem dX8_does_6 : decode cX8_does 6 = .ok (.invokevirtual 25, 3) := dk_182 0 25 (dk_at dksX8_does_0 6 rfl rfl)
theorem dX8_does_9 : decode cX8_does 9 = .ok (.iconst 1, 1) := dk_4 (dk_at dksX8_does_0 9 rfl rfl)
theorem dX8_does_10 : decode cX8_does 10 = .ok (.isub, 1) := dk_100 (dk_at dksX8_does_0 10 rfl rfl)
theorem dX8_does_11 : decode cX8_does 11 = .ok (.istore 4, 2) := dk_54 4 (dk_at dksX8_does_0 11 rfl rfl)
theorem dX8_does_13 : decode cX8_does 13 = .ok (.iload 4, 2) := dk_21 4 (dk_at dksX8_does_0 13 rfl rfl)
theorem dX8_does_15 : decode cX8_does 15 = .ok (.iload_n 2, 1) := dk_28 (dk_at dksX8_does_0 15 rfl rfl)
theorem dX8_does_16 : decode cX8_does 16 = .ok (.if_icmp .le 20, 3) := dk_164 0 20 (dk_at dksX8_does_0 16 rfl rfl)
theorem dX8_does_19 : decode cX8_does 19 = .ok (.iload_n 3, 1) := dk_29 (dk_at dksX8_does_0 19 rfl rfl)
theorem dX8_does_20 : decode cX8_does 20 = .ok (.aload_n 0, 1) := dk_42 (dk_at dksX8_does_0 20 rfl rfl)
theorem dX8_does_21 : decode cX8_does 21 = .ok (.getfield 17, 3) := dk_180 0 17 (dk_at dksX8_does_0 21 rfl rfl)
theorem dX8_does_24 : decode cX8_does 24 = .ok (.iload 4, 2) := dk_21 4 (dk_at dksX8_does_1 0 rfl rfl)
theorem dX8_does_26 : decode cX8_does 26 = .ok (.aaload, 1) := dk_50 (dk_at dksX8_does_1 2 rfl rfl)
theorem dX8_does_27 : decode cX8_does 27 = .ok (.arraylength, 1) := dk_190 (dk_at dksX8_does_1 3 rfl rfl)
theorem dX8_does_28 : decode cX8_does 28 = .ok (.idiv, 1) := dk_108 (dk_at dksX8_does_1 4 rfl rfl)
theorem dX8_does_29 : decode cX8_does 29 = .ok (.istore_n 3, 1) := dk_62 (dk_at dksX8_does_1 5 rfl rfl)
theorem dX8_does_30 : decode cX8_does 30 = .ok (.iinc 4 (-1), 3) := dk_132 4 255 (dk_at dksX8_does_1 6 rfl rfl)
theorem dX8_does_33 : decode cX8_does 33 = .ok (.goto (-20), 3) := dk_167 255 236 (dk_at dksX8_does_1 9 rfl rfl)
theorem dX8_does_36 : decode cX8_does 36 = .ok (.aload_n 0, 1) := dk_42 (dk_at dksX8_does_1 12 rfl rfl)
theorem dX8_does_37 : decode cX8_does 37 = .ok (.getfield 17, 3) := dk_180 0 17 (dk_at dksX8_does_1 13 rfl rfl)
theorem dX8_does_40 : decode cX8_does 40 = .ok (.iload_n 2, 1) := dk_28 (dk_at dksX8_does_1 16 rfl rfl)
theorem dX8_does_41 : decode cX8_does 41 = .ok (.aaload, 1) := dk_50 (dk_at dksX8_does_1 17 rfl rfl)
theorem dX8_does_42 : decode cX8_does 42 = .ok (.iload_n 3, 1) := dk_29 (dk_at dksX8_does_1 18 rfl rfl)
theorem dX8_does_43 : decode cX8_does 43 = .ok (.aload_n 0, 1) := dk_42 (dk_at dksX8_does_1 19 rfl rfl)
theorem dX8_does_44 : decode cX8_does 44 = .ok (.getfield 17, 3) := dk_180 0 17 (dk_at dksX8_does_1 20 rfl rfl)
theorem dX8_does_47 : decode cX8_does 47 = .ok (.iload_n 2, 1) := dk_28 (dk_at dksX8_does_1 23 rfl rfl)
theorem dX8_does_48 : decode cX8_does 48 = .ok (.aaload, 1) := dk_50 (dk_at dksX8_does_2 0 rfl rfl)
theorem dX8_does_49 : decode cX8_does 49 = .ok (.arraylength, 1) := dk_190 (dk_at dksX8_does_2 1 rfl rfl)
theorem dX8_does_50 : decode cX8_does 50 = .ok (.irem, 1) := dk_112 (dk_at dksX8_does_2 2 rfl rfl)
theorem dX8_does_51 : decode cX8_does 51 = .ok (.iaload, 1) := dk_46 (dk_at dksX8_does_2 3 rfl rfl)
theorem dX8_does_52 : decode cX8_does 52 = .ok (.ireturn, 1) := dk_172 (dk_at dksX8_does_2 4 rfl rfl)
def dkwX8_empty_1 : List UInt8 := [162, 0, 18, 28, 42, 29, 27, 182, 0, 62, 104, 61, 132, 3, 1, 167, 255, 233, 28, 172]
abbrev dktX8_empty_1 : List UInt8 := dkwX8_empty_1 ++ []
def dkwX8_empty_0 : List UInt8 := [42, 180, 0, 21, 154, 0, 7, 3, 167, 0, 4, 4, 61, 3, 62, 29, 42, 180, 0, 3, 182, 0, 25]
abbrev dktX8_empty_0 : List UInt8 := dkwX8_empty_0 ++ dktX8_empty_1
theorem dksX8_empty_0 : cX8_empty.data.toList.drop 0 = dktX8_empty_0 := by decide +kernel
theorem dksX8_empty_1 : cX8_empty.data.toList.drop 23 = dktX8_empty_1 := dk_seg dksX8_empty_0 23 rfl rfl
theorem dX8_empty_0 : decode cX8_empty 0 = .ok (.aload_n 0, 1) := dk_42 (dk_at dksX8_empty_0 0 rfl rfl)
theorem dX8_empty_1 : decode cX8_empty 1 = .ok (.getfield 21, 3) := dk_180 0 21 (dk_at dksX8_empty_0 1 rfl rfl)
theorem dX8_empty_4 : decode cX8_empty 4 = .ok (.ifCond .ne 7, 3) := dk_154 0 7 (dk_at dksX8_empty_0 4 rfl rfl)
theorem dX8_empty_7 : decode cX8_empty 7 = .ok (.iconst 0, 1) := dk_3 (dk_at dksX8_empty_0 7 rfl rfl)
theorem dX8_empty_8 : decode cX8_empty 8 = .ok (.goto 4, 3) := dk_167 0 4 (dk_at dksX8_empty_0 8 rfl rfl)
theorem dX8_empty_11 : decode cX8_empty 11 = .ok (.iconst 1, 1) := dk_4 (dk_at dksX8_empty_0 11 rfl rfl)
theorem dX8_empty_12 : decode cX8_empty 12 = .ok (.istore_n 2, 1) := dk_61 (dk_at dksX8_empty_0 12 rfl rfl)
theorem dX8_empty_13 : decode cX8_empty 13 = .ok (.iconst 0, 1) := dk_3 (dk_at dksX8_empty_0 13 rfl rfl)
theorem dX8_empty_14 : decode cX8_empty 14 = .ok (.istore_n 3, 1) := dk_62 (dk_at dksX8_empty_0 14 rfl rfl)
theorem dX8_empty_15 : decode cX8_empty 15 = .ok (.iload_n 3, 1) := dk_29 (dk_at dksX8_empty_0 15 rfl rfl)
theorem dX8_empty_16 : decode cX8_empty 16 = .ok (.aload_n 0, 1) := dk_42 (dk_at dksX8_empty_0 16 rfl rfl)
theorem dX8_empty_17 : decode cX8_empty 17 = .ok (.getfield 3, 3) := dk_180 0 3 (dk_at dksX8_empty_0 17 rfl rfl)
theorem dX8_empty_20 : decode cX8_empty 20 = .ok (.invokevirtual 25, 3) := dk_182 0 25 (dk_at dksX8_empty_0 20 rfl rfl)
theorem dX8_empty_23 : decode cX8_empty 23 = .ok (.if_icmp .ge 18, 3) := dk_162 0 18 (dk_at dksX8_empty_1 0 rfl rfl)
theorem dX8_empty_26 : decode cX8_empty 26 = .ok (.iload_n 2, 1) := dk_28 (dk_at dksX8_empty_1 3 rfl rfl)
theorem dX8_empty_27 : decode cX8_empty 27 = .ok (.aload_n 0, 1) := dk_42 (dk_at dksX8_empty_1 4 rfl rfl)
theorem dX8_empty_28 : decode cX8_empty 28 = .ok (.iload_n 3, 1) := dk_29 (dk_at dksX8_empty_1 5 rfl rfl)
theorem dX8_empty_29 : decode cX8_empty 29 = .ok (.iload_n 1, 1) := dk_27 (dk_at dksX8_empty_1 6 rfl rfl)
theorem dX8_empty_30 : decode cX8_empty 30 = .ok (.invokevirtual 62, 3) := dk_182 0 62 (dk_at dksX8_empty_1 7 rfl rfl)
theorem dX8_empty_33 : decode cX8_empty 33 = .ok (.imul, 1) := dk_104 (dk_at dksX8_empty_1 10 rfl rfl)
theorem dX8_empty_34 : decode cX8_empty 34 = .ok (.istore_n 2, 1) := dk_61 (dk_at dksX8_empty_1 11 rfl rfl)
theorem dX8_empty_35 : decode cX8_empty 35 = .ok (.iinc 3 1, 3) := dk_132 3 1 (dk_at dksX8_empty_1 12 rfl rfl)
theorem dX8_empty_38 : decode cX8_empty 38 = .ok (.goto (-23), 3) := dk_167 255 233 (dk_at dksX8_empty_1 15 rfl rfl)
theorem dX8_empty_41 : decode cX8_empty 41 = .ok (.iload_n 2, 1) := dk_28 (dk_at dksX8_empty_1 18 rfl rfl)
theorem dX8_empty_42 : decode cX8_empty 42 = .ok (.ireturn, 1) := dk_172 (dk_at dksX8_empty_1 19 rfl rfl)
def dkwX8_absences_2 : List UInt8 := [132, 4, 1, 167, 255, 214, 29, 172]
abbrev dktX8_absences_2 : List UInt8 := dkwX8_absences_2 ++ []
def dkwX8_absences_1 : List UInt8 := [182, 0, 29, 42, 180, 0, 17, 27, 50, 21, 4, 46, 182, 0, 59, 28, 159, 0, 6, 132, 3, 1]
abbrev dktX8_absences_1 : List UInt8 := dkwX8_absences_1 ++ dktX8_absences_2
def dkwX8_absences_0 : List UInt8 := [3, 62, 3, 54, 4, 21, 4, 42, 180, 0, 17, 27, 50, 190, 162, 0, 36, 42, 180, 0, 3, 27]
abbrev dktX8_absences_0 : List UInt8 := dkwX8_absences_0 ++ dktX8_absences_1
theorem dksX8_absences_0 : cX8_absences.data.toList.drop 0 = dktX8_absences_0 := by decide +kernel
theorem dksX8_absences_1 : cX8_absences.data.toList.drop 22 = dktX8_absences_1 := dk_seg dksX8_absences_0 22 rfl rfl
theorem dksX8_absences_2 : cX8_absences.data.toList.drop 44 = dktX8_absences_2 := dk_seg dksX8_absences_1 22 rfl rfl
theorem dX8_absences_0 : decode cX8_absences 0 = .ok (.iconst 0, 1) := dk_3 (dk_at dksX8_absences_0 0 rfl rfl)
theorem dX8_absences_1 : decode cX8_absences 1 = .ok (.istore_n 3, 1) := dk_62 (dk_at dksX8_absences_0 1 rfl rfl)
theorem dX8_absences_2 : decode cX8_absences 2 = .ok (.iconst 0, 1) := dk_3 (dk_at dksX8_absences_0 2 rfl rfl)
theorem dX8_absences_3 : decode cX8_absences 3 = .ok (.istore 4, 2) := dk_54 4 (dk_at dksX8_absences_0 3 rfl rfl)
theorem dX8_absences_5 : decode cX8_absences 5 = .ok (.iload 4, 2) := dk_21 4 (dk_at dksX8_absences_0 5 rfl rfl)
theorem dX8_absences_7 : decode cX8_absences 7 = .ok (.aload_n 0, 1) := dk_42 (dk_at dksX8_absences_0 7 rfl rfl)
theorem dX8_absences_8 : decode cX8_absences 8 = .ok (.getfield 17, 3) := dk_180 0 17 (dk_at dksX8_absences_0 8 rfl rfl)
theorem dX8_absences_11 : decode cX8_absences 11 = .ok (.iload_n 1, 1) := dk_27 (dk_at dksX8_absences_0 11 rfl rfl)
theorem dX8_absences_12 : decode cX8_absences 12 = .ok (.aaload, 1) := dk_50 (dk_at dksX8_absences_0 12 rfl rfl)
theorem dX8_absences_13 : decode cX8_absences 13 = .ok (.arraylength, 1) := dk_190 (dk_at dksX8_absences_0 13 rfl rfl)
theorem dX8_absences_14 : decode cX8_absences 14 = .ok (.if_icmp .ge 36, 3) := dk_162 0 36 (dk_at dksX8_absences_0 14 rfl rfl)
theorem dX8_absences_17 : decode cX8_absences 17 = .ok (.aload_n 0, 1) := dk_42 (dk_at dksX8_absences_0 17 rfl rfl)
theorem dX8_absences_18 : decode cX8_absences 18 = .ok (.getfield 3, 3) := dk_180 0 3 (dk_at dksX8_absences_0 18 rfl rfl)
theorem dX8_absences_21 : decode cX8_absences 21 = .ok (.iload_n 1, 1) := dk_27 (dk_at dksX8_absences_0 21 rfl rfl)
theorem dX8_absences_22 : decode cX8_absences 22 = .ok (.invokevirtual 29, 3) := dk_182 0 29 (dk_at dksX8_absences_1 0 rfl rfl)
theorem dX8_absences_25 : decode cX8_absences 25 = .ok (.aload_n 0, 1) := dk_42 (dk_at dksX8_absences_1 3 rfl rfl)
theorem dX8_absences_26 : decode cX8_absences 26 = .ok (.getfield 17, 3) := dk_180 0 17 (dk_at dksX8_absences_1 4 rfl rfl)
theorem dX8_absences_29 : decode cX8_absences 29 = .ok (.iload_n 1, 1) := dk_27 (dk_at dksX8_absences_1 7 rfl rfl)
theorem dX8_absences_30 : decode cX8_absences 30 = .ok (.aaload, 1) := dk_50 (dk_at dksX8_absences_1 8 rfl rfl)
theorem dX8_absences_31 : decode cX8_absences 31 = .ok (.iload 4, 2) := dk_21 4 (dk_at dksX8_absences_1 9 rfl rfl)
theorem dX8_absences_33 : decode cX8_absences 33 = .ok (.iaload, 1) := dk_46 (dk_at dksX8_absences_1 11 rfl rfl)
theorem dX8_absences_34 : decode cX8_absences 34 = .ok (.invokevirtual 59, 3) := dk_182 0 59 (dk_at dksX8_absences_1 12 rfl rfl)
theorem dX8_absences_37 : decode cX8_absences 37 = .ok (.iload_n 2, 1) := dk_28 (dk_at dksX8_absences_1 15 rfl rfl)
theorem dX8_absences_38 : decode cX8_absences 38 = .ok (.if_icmp .eq 6, 3) := dk_159 0 6 (dk_at dksX8_absences_1 16 rfl rfl)
theorem dX8_absences_41 : decode cX8_absences 41 = .ok (.iinc 3 1, 3) := dk_132 3 1 (dk_at dksX8_absences_1 19 rfl rfl)
theorem dX8_absences_44 : decode cX8_absences 44 = .ok (.iinc 4 1, 3) := dk_132 4 1 (dk_at dksX8_absences_2 0 rfl rfl)
theorem dX8_absences_47 : decode cX8_absences 47 = .ok (.goto (-42), 3) := dk_167 255 214 (dk_at dksX8_absences_2 3 rfl rfl)
theorem dX8_absences_50 : decode cX8_absences 50 = .ok (.iload_n 3, 1) := dk_29 (dk_at dksX8_absences_2 6 rfl rfl)
theorem dX8_absences_51 : decode cX8_absences 51 = .ok (.ireturn, 1) := dk_172 (dk_at dksX8_absences_2 7 rfl rfl)
def dkwX9_init_5 : List UInt8 := [177]
abbrev dktX9_init_5 : List UInt8 := dkwX9_init_5 ++ []
def dkwX9_init_4 : List UInt8 := [132, 6, 1, 167, 255, 223, 132, 5, 1, 167, 255, 202, 42, 180, 0, 15, 3, 28, 79, 42, 4, 182, 0, 45]
abbrev dktX9_init_4 : List UInt8 := dkwX9_init_4 ++ dktX9_init_5
def dkwX9_init_3 : List UInt8 := [42, 180, 0, 22, 16, 6, 21, 5, 104, 21, 6, 96, 43, 21, 5, 29, 21, 6, 96, 182, 0, 41, 79]
abbrev dktX9_init_3 : List UInt8 := dkwX9_init_3 ++ dktX9_init_4
def dkwX9_init_2 : List UInt8 := [54, 5, 21, 5, 43, 180, 0, 32, 180, 0, 36, 162, 0, 48, 3, 54, 6, 21, 6, 21, 4, 162, 0, 32]
abbrev dktX9_init_2 : List UInt8 := dkwX9_init_2 ++ dktX9_init_3
def dkwX9_init_1 : List UInt8 := [181, 0, 19, 42, 16, 48, 188, 10, 181, 0, 22, 42, 2, 181, 0, 25, 42, 21, 4, 181, 0, 29, 3]
abbrev dktX9_init_1 : List UInt8 := dkwX9_init_1 ++ dktX9_init_2
def dkwX9_init_0 : List UInt8 := [42, 43, 181, 0, 3, 42, 183, 0, 9, 42, 16, 6, 188, 10, 181, 0, 15, 42, 16, 6, 188, 10]
abbrev dktX9_init_0 : List UInt8 := dkwX9_init_0 ++ dktX9_init_1
theorem dksX9_init_0 : cX9_init.data.toList.drop 0 = dktX9_init_0 := by decide +kernel
theorem dksX9_init_1 : cX9_init.data.toList.drop 22 = dktX9_init_1 := dk_seg dksX9_init_0 22 rfl rfl
theorem dksX9_init_2 : cX9_init.data.toList.drop 45 = dktX9_init_2 := dk_seg dksX9_init_1 23 rfl rfl
theorem dksX9_init_3 : cX9_init.data.toList.drop 69 = dktX9_init_3 := dk_seg dksX9_init_2 24 rfl rfl
theorem dksX9_init_4 : cX9_init.data.toList.drop 92 = dktX9_init_4 := dk_seg dksX9_init_3 23 rfl rfl
theorem dksX9_init_5 : cX9_init.data.toList.drop 116 = dktX9_init_5 := dk_seg dksX9_init_4 24 rfl rfl
theorem dX9_init_0 : decode cX9_init 0 = .ok (.aload_n 0, 1) := dk_42 (dk_at dksX9_init_0 0 rfl rfl)
theorem dX9_init_1 : decode cX9_init 1 = .ok (.aload_n 1, 1) := dk_43 (dk_at dksX9_init_0 1 rfl rfl)
theorem dX9_init_2 : decode cX9_init 2 = .ok (.putfield 3, 3) := dk_181 0 3 (dk_at dksX9_init_0 2 rfl rfl)
theorem dX9_init_5 : decode cX9_init 5 = .ok (.aload_n 0, 1) := dk_42 (dk_at dksX9_init_0 5 rfl rfl)
theorem dX9_init_6 : decode cX9_init 6 = .ok (.invokespecial 9, 3) := dk_183 0 9 (dk_at dksX9_init_0 6 rfl rfl)
theorem dX9_init_9 : decode cX9_init 9 = .ok (.aload_n 0, 1) := dk_42 (dk_at dksX9_init_0 9 rfl rfl)
theorem dX9_init_10 : decode cX9_init 10 = .ok (.bipush 6, 2) := dk_16 6 (dk_at dksX9_init_0 10 rfl rfl)
theorem dX9_init_12 : decode cX9_init 12 = .ok (.newarray .int, 2) := dk_188_10 (dk_at dksX9_init_0 12 rfl rfl)
theorem dX9_init_14 : decode cX9_init 14 = .ok (.putfield 15, 3) := dk_181 0 15 (dk_at dksX9_init_0 14 rfl rfl)
theorem dX9_init_17 : decode cX9_init 17 = .ok (.aload_n 0, 1) := dk_42 (dk_at dksX9_init_0 17 rfl rfl)
theorem dX9_init_18 : decode cX9_init 18 = .ok (.bipush 6, 2) := dk_16 6 (dk_at dksX9_init_0 18 rfl rfl)
theorem dX9_init_20 : decode cX9_init 20 = .ok (.newarray .int, 2) := dk_188_10 (dk_at dksX9_init_0 20 rfl rfl)
theorem dX9_init_22 : decode cX9_init 22 = .ok (.putfield 19, 3) := dk_181 0 19 (dk_at dksX9_init_1 0 rfl rfl)
theorem dX9_init_25 : decode cX9_init 25 = .ok (.aload_n 0, 1) := dk_42 (dk_at dksX9_init_1 3 rfl rfl)
theorem dX9_init_26 : decode cX9_init 26 = .ok (.bipush 48, 2) := dk_16 48 (dk_at dksX9_init_1 4 rfl rfl)
theorem dX9_init_28 : decode cX9_init 28 = .ok (.newarray .int, 2) := dk_188_10 (dk_at dksX9_init_1 6 rfl rfl)
theorem dX9_init_30 : decode cX9_init 30 = .ok (.putfield 22, 3) := dk_181 0 22 (dk_at dksX9_init_1 8 rfl rfl)
theorem dX9_init_33 : decode cX9_init 33 = .ok (.aload_n 0, 1) := dk_42 (dk_at dksX9_init_1 11 rfl rfl)
theorem dX9_init_34 : decode cX9_init 34 = .ok (.iconst (-1), 1) := dk_2 (dk_at dksX9_init_1 12 rfl rfl)
theorem dX9_init_35 : decode cX9_init 35 = .ok (.putfield 25, 3) := dk_181 0 25 (dk_at dksX9_init_1 13 rfl rfl)
theorem dX9_init_38 : decode cX9_init 38 = .ok (.aload_n 0, 1) := dk_42 (dk_at dksX9_init_1 16 rfl rfl)
theorem dX9_init_39 : decode cX9_init 39 = .ok (.iload 4, 2) := dk_21 4 (dk_at dksX9_init_1 17 rfl rfl)
theorem dX9_init_41 : decode cX9_init 41 = .ok (.putfield 29, 3) := dk_181 0 29 (dk_at dksX9_init_1 19 rfl rfl)
theorem dX9_init_44 : decode cX9_init 44 = .ok (.iconst 0, 1) := dk_3 (dk_at dksX9_init_1 22 rfl rfl)
theorem dX9_init_45 : decode cX9_init 45 = .ok (.istore 5, 2) := dk_54 5 (dk_at dksX9_init_2 0 rfl rfl)
theorem dX9_init_47 : decode cX9_init 47 = .ok (.iload 5, 2) := dk_21 5 (dk_at dksX9_init_2 2 rfl rfl)
theorem dX9_init_49 : decode cX9_init 49 = .ok (.aload_n 1, 1) := dk_43 (dk_at dksX9_init_2 4 rfl rfl)
theorem dX9_init_50 : decode cX9_init 50 = .ok (.getfield 32, 3) := dk_180 0 32 (dk_at dksX9_init_2 5 rfl rfl)
theorem dX9_init_53 : decode cX9_init 53 = .ok (.getfield 36, 3) := dk_180 0 36 (dk_at dksX9_init_2 8 rfl rfl)
theorem dX9_init_56 : decode cX9_init 56 = .ok (.if_icmp .ge 48, 3) := dk_162 0 48 (dk_at dksX9_init_2 11 rfl rfl)
theorem dX9_init_59 : decode cX9_init 59 = .ok (.iconst 0, 1) := dk_3 (dk_at dksX9_init_2 14 rfl rfl)
theorem dX9_init_60 : decode cX9_init 60 = .ok (.istore 6, 2) := dk_54 6 (dk_at dksX9_init_2 15 rfl rfl)
theorem dX9_init_62 : decode cX9_init 62 = .ok (.iload 6, 2) := dk_21 6 (dk_at dksX9_init_2 17 rfl rfl)
theorem dX9_init_64 : decode cX9_init 64 = .ok (.iload 4, 2) := dk_21 4 (dk_at dksX9_init_2 19 rfl rfl)
theorem dX9_init_66 : decode cX9_init 66 = .ok (.if_icmp .ge 32, 3) := dk_162 0 32 (dk_at dksX9_init_2 21 rfl rfl)
theorem dX9_init_69 : decode cX9_init 69 = .ok (.aload_n 0, 1) := dk_42 (dk_at dksX9_init_3 0 rfl rfl)
theorem dX9_init_70 : decode cX9_init 70 = .ok (.getfield 22, 3) := dk_180 0 22 (dk_at dksX9_init_3 1 rfl rfl)
theorem dX9_init_73 : decode cX9_init 73 = .ok (.bipush 6, 2) := dk_16 6 (dk_at dksX9_init_3 4 rfl rfl)
theorem dX9_init_75 : decode cX9_init 75 = .ok (.iload 5, 2) := dk_21 5 (dk_at dksX9_init_3 6 rfl rfl)
theorem dX9_init_77 : decode cX9_init 77 = .ok (.imul, 1) := dk_104 (dk_at dksX9_init_3 8 rfl rfl)
theorem dX9_init_78 : decode cX9_init 78 = .ok (.iload 6, 2) := dk_21 6 (dk_at dksX9_init_3 9 rfl rfl)
theorem dX9_init_80 : decode cX9_init 80 = .ok (.iadd, 1) := dk_96 (dk_at dksX9_init_3 11 rfl rfl)
theorem dX9_init_81 : decode cX9_init 81 = .ok (.aload_n 1, 1) := dk_43 (dk_at dksX9_init_3 12 rfl rfl)
theorem dX9_init_82 : decode cX9_init 82 = .ok (.iload 5, 2) := dk_21 5 (dk_at dksX9_init_3 13 rfl rfl)
theorem dX9_init_84 : decode cX9_init 84 = .ok (.iload_n 3, 1) := dk_29 (dk_at dksX9_init_3 15 rfl rfl)
theorem dX9_init_85 : decode cX9_init 85 = .ok (.iload 6, 2) := dk_21 6 (dk_at dksX9_init_3 16 rfl rfl)
theorem dX9_init_87 : decode cX9_init 87 = .ok (.iadd, 1) := dk_96 (dk_at dksX9_init_3 18 rfl rfl)
theorem dX9_init_88 : decode cX9_init 88 = .ok (.invokevirtual 41, 3) := dk_182 0 41 (dk_at dksX9_init_3 19 rfl rfl)
theorem dX9_init_91 : decode cX9_init 91 = .ok (.iastore, 1) := dk_79 (dk_at dksX9_init_3 22 rfl rfl)
theorem dX9_init_92 : decode cX9_init 92 = .ok (.iinc 6 1, 3) := dk_132 6 1 (dk_at dksX9_init_4 0 rfl rfl)
theorem dX9_init_95 : decode cX9_init 95 = .ok (.goto (-33), 3) := dk_167 255 223 (dk_at dksX9_init_4 3 rfl rfl)
theorem dX9_init_98 : decode cX9_init 98 = .ok (.iinc 5 1, 3) := dk_132 5 1 (dk_at dksX9_init_4 6 rfl rfl)
theorem dX9_init_101 : decode cX9_init 101 = .ok (.goto (-54), 3) := dk_167 255 202 (dk_at dksX9_init_4 9 rfl rfl)
theorem dX9_init_104 : decode cX9_init 104 = .ok (.aload_n 0, 1) := dk_42 (dk_at dksX9_init_4 12 rfl rfl)
theorem dX9_init_105 : decode cX9_init 105 = .ok (.getfield 15, 3) := dk_180 0 15 (dk_at dksX9_init_4 13 rfl rfl)
theorem dX9_init_108 : decode cX9_init 108 = .ok (.iconst 0, 1) := dk_3 (dk_at dksX9_init_4 16 rfl rfl)
theorem dX9_init_109 : decode cX9_init 109 = .ok (.iload_n 2, 1) := dk_28 (dk_at dksX9_init_4 17 rfl rfl)
theorem dX9_init_110 : decode cX9_init 110 = .ok (.iastore, 1) := dk_79 (dk_at dksX9_init_4 18 rfl rfl)
theorem dX9_init_111 : decode cX9_init 111 = .ok (.aload_n 0, 1) := dk_42 (dk_at dksX9_init_4 19 rfl rfl)
theorem dX9_init_112 : decode cX9_init 112 = .ok (.iconst 1, 1) := dk_4 (dk_at dksX9_init_4 20 rfl rfl)
theorem dX9_init_113 : decode cX9_init 113 = .ok (.invokevirtual 45, 3) := dk_182 0 45 (dk_at dksX9_init_4 21 rfl rfl)
theorem dX9_init_116 : decode cX9_init 116 = .ok (.return_, 1) := dk_177 (dk_at dksX9_init_5 0 rfl rfl)
def dkwX9_go_7 : List UInt8 := [167, 255, 210, 177]
abbrev dktX9_go_7 : List UInt8 := dkwX9_go_7 ++ []
def dkwX9_go_6 : List UInt8 := [184, 0, 58, 163, 0, 23, 42, 180, 0, 15, 27, 28, 79, 42, 27, 4, 96, 182, 0, 45, 132, 2, 1]
abbrev dktX9_go_6 : List UInt8 := dkwX9_go_6 ++ dktX9_go_7
def dkwX9_go_5 : List UInt8 := [42, 180, 0, 3, 180, 0, 32, 180, 0, 36, 4, 100, 42, 180, 0, 15, 27, 4, 100, 46, 4, 96]
abbrev dktX9_go_5 : List UInt8 := dkwX9_go_5 ++ dktX9_go_6
def dkwX9_go_4 : List UInt8 := [79, 132, 3, 1, 167, 255, 233, 177, 3, 42, 180, 0, 15, 27, 4, 100, 46, 4, 100, 184, 0, 53, 61, 28]
abbrev dktX9_go_4 : List UInt8 := dkwX9_go_4 ++ dktX9_go_5
def dkwX9_go_3 : List UInt8 := [181, 0, 25, 3, 62, 29, 42, 180, 0, 29, 162, 0, 21, 42, 180, 0, 19, 29, 42, 180, 0, 15, 29, 46]
abbrev dktX9_go_3 : List UInt8 := dkwX9_go_3 ++ dktX9_go_4
def dkwX9_go_2 : List UInt8 := [29, 96, 46, 96, 61, 132, 3, 1, 167, 255, 214, 28, 42, 180, 0, 25, 163, 0, 4, 177, 42, 28]
abbrev dktX9_go_2 : List UInt8 := dkwX9_go_2 ++ dktX9_go_3
def dkwX9_go_1 : List UInt8 := [180, 0, 15, 29, 182, 0, 49, 153, 0, 22, 28, 42, 180, 0, 22, 16, 6, 42, 180, 0, 15, 29, 46, 104]
abbrev dktX9_go_1 : List UInt8 := dkwX9_go_1 ++ dktX9_go_2
def dkwX9_go_0 : List UInt8 := [27, 42, 180, 0, 29, 160, 0, 95, 3, 61, 3, 62, 29, 42, 180, 0, 29, 162, 0, 40, 42, 42]
abbrev dktX9_go_0 : List UInt8 := dkwX9_go_0 ++ dktX9_go_1
theorem dksX9_go_0 : cX9_go.data.toList.drop 0 = dktX9_go_0 := by decide +kernel
theorem dksX9_go_1 : cX9_go.data.toList.drop 22 = dktX9_go_1 := dk_seg dksX9_go_0 22 rfl rfl
theorem dksX9_go_2 : cX9_go.data.toList.drop 46 = dktX9_go_2 := dk_seg dksX9_go_1 24 rfl rfl
theorem dksX9_go_3 : cX9_go.data.toList.drop 68 = dktX9_go_3 := dk_seg dksX9_go_2 22 rfl rfl
theorem dksX9_go_4 : cX9_go.data.toList.drop 92 = dktX9_go_4 := dk_seg dksX9_go_3 24 rfl rfl
theorem dksX9_go_5 : cX9_go.data.toList.drop 116 = dktX9_go_5 := dk_seg dksX9_go_4 24 rfl rfl
theorem dksX9_go_6 : cX9_go.data.toList.drop 138 = dktX9_go_6 := dk_seg dksX9_go_5 22 rfl rfl
theorem dksX9_go_7 : cX9_go.data.toList.drop 161 = dktX9_go_7 := dk_seg dksX9_go_6 23 rfl rfl
theorem dX9_go_0 : decode cX9_go 0 = .ok (.iload_n 1, 1) := dk_27 (dk_at dksX9_go_0 0 rfl rfl)
theorem dX9_go_1 : decode cX9_go 1 = .ok (.aload_n 0, 1) := dk_42 (dk_at dksX9_go_0 1 rfl rfl)
theorem dX9_go_2 : decode cX9_go 2 = .ok (.getfield 29, 3) := dk_180 0 29 (dk_at dksX9_go_0 2 rfl rfl)
theorem dX9_go_5 : decode cX9_go 5 = .ok (.if_icmp .ne 95, 3) := dk_160 0 95 (dk_at dksX9_go_0 5 rfl rfl)
theorem dX9_go_8 : decode cX9_go 8 = .ok (.iconst 0, 1) := dk_3 (dk_at dksX9_go_0 8 rfl rfl)
theorem dX9_go_9 : decode cX9_go 9 = .ok (.istore_n 2, 1) := dk_61 (dk_at dksX9_go_0 9 rfl rfl)
theorem dX9_go_10 : decode cX9_go 10 = .ok (.iconst 0, 1) := dk_3 (dk_at dksX9_go_0 10 rfl rfl)
theorem dX9_go_11 : decode cX9_go 11 = .ok (.istore_n 3, 1) := dk_62 (dk_at dksX9_go_0 11 rfl rfl)
theorem dX9_go_12 : decode cX9_go 12 = .ok (.iload_n 3, 1) := dk_29 (dk_at dksX9_go_0 12 rfl rfl)
theorem dX9_go_13 : decode cX9_go 13 = .ok (.aload_n 0, 1) := dk_42 (dk_at dksX9_go_0 13 rfl rfl)
theorem dX9_go_14 : decode cX9_go 14 = .ok (.getfield 29, 3) := dk_180 0 29 (dk_at dksX9_go_0 14 rfl rfl)
theorem dX9_go_17 : decode cX9_go 17 = .ok (.if_icmp .ge 40, 3) := dk_162 0 40 (dk_at dksX9_go_0 17 rfl rfl)
theorem dX9_go_20 : decode cX9_go 20 = .ok (.aload_n 0, 1) := dk_42 (dk_at dksX9_go_0 20 rfl rfl)
theorem dX9_go_21 : decode cX9_go 21 = .ok (.aload_n 0, 1) := dk_42 (dk_at dksX9_go_0 21 rfl rfl)
theorem dX9_go_22 : decode cX9_go 22 = .ok (.getfield 15, 3) := dk_180 0 15 (dk_at dksX9_go_1 0 rfl rfl)
theorem dX9_go_25 : decode cX9_go 25 = .ok (.iload_n 3, 1) := dk_29 (dk_at dksX9_go_1 3 rfl rfl)
theorem dX9_go_26 : decode cX9_go 26 = .ok (.invokevirtual 49, 3) := dk_182 0 49 (dk_at dksX9_go_1 4 rfl rfl)
theorem dX9_go_29 : decode cX9_go 29 = .ok (.ifCond .eq 22, 3) := dk_153 0 22 (dk_at dksX9_go_1 7 rfl rfl)
theorem dX9_go_32 : decode cX9_go 32 = .ok (.iload_n 2, 1) := dk_28 (dk_at dksX9_go_1 10 rfl rfl)
theorem dX9_go_33 : decode cX9_go 33 = .ok (.aload_n 0, 1) := dk_42 (dk_at dksX9_go_1 11 rfl rfl)
theorem dX9_go_34 : decode cX9_go 34 = .ok (.getfield 22, 3) := dk_180 0 22 (dk_at dksX9_go_1 12 rfl rfl)
theorem dX9_go_37 : decode cX9_go 37 = .ok (.bipush 6, 2) := dk_16 6 (dk_at dksX9_go_1 15 rfl rfl)
theorem dX9_go_39 : decode cX9_go 39 = .ok (.aload_n 0, 1) := dk_42 (dk_at dksX9_go_1 17 rfl rfl)
theorem dX9_go_40 : decode cX9_go 40 = .ok (.getfield 15, 3) := dk_180 0 15 (dk_at dksX9_go_1 18 rfl rfl)
theorem dX9_go_43 : decode cX9_go 43 = .ok (.iload_n 3, 1) := dk_29 (dk_at dksX9_go_1 21 rfl rfl)
theorem dX9_go_44 : decode cX9_go 44 = .ok (.iaload, 1) := dk_46 (dk_at dksX9_go_1 22 rfl rfl)
theorem dX9_go_45 : decode cX9_go 45 = .ok (.imul, 1) := dk_104 (dk_at dksX9_go_1 23 rfl rfl)
theorem dX9_go_46 : decode cX9_go 46 = .ok (.iload_n 3, 1) := dk_29 (dk_at dksX9_go_2 0 rfl rfl)
theorem dX9_go_47 : decode cX9_go 47 = .ok (.iadd, 1) := dk_96 (dk_at dksX9_go_2 1 rfl rfl)
theorem dX9_go_48 : decode cX9_go 48 = .ok (.iaload, 1) := dk_46 (dk_at dksX9_go_2 2 rfl rfl)
theorem dX9_go_49 : decode cX9_go 49 = .ok (.iadd, 1) := dk_96 (dk_at dksX9_go_2 3 rfl rfl)
theorem dX9_go_50 : decode cX9_go 50 = .ok (.istore_n 2, 1) := dk_61 (dk_at dksX9_go_2 4 rfl rfl)
theorem dX9_go_51 : decode cX9_go 51 = .ok (.iinc 3 1, 3) := dk_132 3 1 (dk_at dksX9_go_2 5 rfl rfl)
theorem dX9_go_54 : decode cX9_go 54 = .ok (.goto (-42), 3) := dk_167 255 214 (dk_at dksX9_go_2 8 rfl rfl)
theorem dX9_go_57 : decode cX9_go 57 = .ok (.iload_n 2, 1) := dk_28 (dk_at dksX9_go_2 11 rfl rfl)
theorem dX9_go_58 : decode cX9_go 58 = .ok (.aload_n 0, 1) := dk_42 (dk_at dksX9_go_2 12 rfl rfl)
theorem dX9_go_59 : decode cX9_go 59 = .ok (.getfield 25, 3) := dk_180 0 25 (dk_at dksX9_go_2 13 rfl rfl)
theorem dX9_go_62 : decode cX9_go 62 = .ok (.if_icmp .gt 4, 3) := dk_163 0 4 (dk_at dksX9_go_2 16 rfl rfl)
theorem dX9_go_65 : decode cX9_go 65 = .ok (.return_, 1) := dk_177 (dk_at dksX9_go_2 19 rfl rfl)
theorem dX9_go_66 : decode cX9_go 66 = .ok (.aload_n 0, 1) := dk_42 (dk_at dksX9_go_2 20 rfl rfl)
theorem dX9_go_67 : decode cX9_go 67 = .ok (.iload_n 2, 1) := dk_28 (dk_at dksX9_go_2 21 rfl rfl)
theorem dX9_go_68 : decode cX9_go 68 = .ok (.putfield 25, 3) := dk_181 0 25 (dk_at dksX9_go_3 0 rfl rfl)
theorem dX9_go_71 : decode cX9_go 71 = .ok (.iconst 0, 1) := dk_3 (dk_at dksX9_go_3 3 rfl rfl)
theorem dX9_go_72 : decode cX9_go 72 = .ok (.istore_n 3, 1) := dk_62 (dk_at dksX9_go_3 4 rfl rfl)
theorem dX9_go_73 : decode cX9_go 73 = .ok (.iload_n 3, 1) := dk_29 (dk_at dksX9_go_3 5 rfl rfl)
theorem dX9_go_74 : decode cX9_go 74 = .ok (.aload_n 0, 1) := dk_42 (dk_at dksX9_go_3 6 rfl rfl)
theorem dX9_go_75 : decode cX9_go 75 = .ok (.getfield 29, 3) := dk_180 0 29 (dk_at dksX9_go_3 7 rfl rfl)
theorem dX9_go_78 : decode cX9_go 78 = .ok (.if_icmp .ge 21, 3) := dk_162 0 21 (dk_at dksX9_go_3 10 rfl rfl)
theorem dX9_go_81 : decode cX9_go 81 = .ok (.aload_n 0, 1) := dk_42 (dk_at dksX9_go_3 13 rfl rfl)
theorem dX9_go_82 : decode cX9_go 82 = .ok (.getfield 19, 3) := dk_180 0 19 (dk_at dksX9_go_3 14 rfl rfl)
theorem dX9_go_85 : decode cX9_go 85 = .ok (.iload_n 3, 1) := dk_29 (dk_at dksX9_go_3 17 rfl rfl)
theorem dX9_go_86 : decode cX9_go 86 = .ok (.aload_n 0, 1) := dk_42 (dk_at dksX9_go_3 18 rfl rfl)
theorem dX9_go_87 : decode cX9_go 87 = .ok (.getfield 15, 3) := dk_180 0 15 (dk_at dksX9_go_3 19 rfl rfl)
theorem dX9_go_90 : decode cX9_go 90 = .ok (.iload_n 3, 1) := dk_29 (dk_at dksX9_go_3 22 rfl rfl)
theorem dX9_go_91 : decode cX9_go 91 = .ok (.iaload, 1) := dk_46 (dk_at dksX9_go_3 23 rfl rfl)
theorem dX9_go_92 : decode cX9_go 92 = .ok (.iastore, 1) := dk_79 (dk_at dksX9_go_4 0 rfl rfl)
theorem dX9_go_93 : decode cX9_go 93 = .ok (.iinc 3 1, 3) := dk_132 3 1 (dk_at dksX9_go_4 1 rfl rfl)
theorem dX9_go_96 : decode cX9_go 96 = .ok (.goto (-23), 3) := dk_167 255 233 (dk_at dksX9_go_4 4 rfl rfl)
theorem dX9_go_99 : decode cX9_go 99 = .ok (.return_, 1) := dk_177 (dk_at dksX9_go_4 7 rfl rfl)
theorem dX9_go_100 : decode cX9_go 100 = .ok (.iconst 0, 1) := dk_3 (dk_at dksX9_go_4 8 rfl rfl)
theorem dX9_go_101 : decode cX9_go 101 = .ok (.aload_n 0, 1) := dk_42 (dk_at dksX9_go_4 9 rfl rfl)
theorem dX9_go_102 : decode cX9_go 102 = .ok (.getfield 15, 3) := dk_180 0 15 (dk_at dksX9_go_4 10 rfl rfl)
theorem dX9_go_105 : decode cX9_go 105 = .ok (.iload_n 1, 1) := dk_27 (dk_at dksX9_go_4 13 rfl rfl)
theorem dX9_go_106 : decode cX9_go 106 = .ok (.iconst 1, 1) := dk_4 (dk_at dksX9_go_4 14 rfl rfl)
theorem dX9_go_107 : decode cX9_go 107 = .ok (.isub, 1) := dk_100 (dk_at dksX9_go_4 15 rfl rfl)
theorem dX9_go_108 : decode cX9_go 108 = .ok (.iaload, 1) := dk_46 (dk_at dksX9_go_4 16 rfl rfl)
theorem dX9_go_109 : decode cX9_go 109 = .ok (.iconst 1, 1) := dk_4 (dk_at dksX9_go_4 17 rfl rfl)
theorem dX9_go_110 : decode cX9_go 110 = .ok (.isub, 1) := dk_100 (dk_at dksX9_go_4 18 rfl rfl)
theorem dX9_go_111 : decode cX9_go 111 = .ok (.invokestatic 53, 3) := dk_184 0 53 (dk_at dksX9_go_4 19 rfl rfl)
theorem dX9_go_114 : decode cX9_go 114 = .ok (.istore_n 2, 1) := dk_61 (dk_at dksX9_go_4 22 rfl rfl)
theorem dX9_go_115 : decode cX9_go 115 = .ok (.iload_n 2, 1) := dk_28 (dk_at dksX9_go_4 23 rfl rfl)
theorem dX9_go_116 : decode cX9_go 116 = .ok (.aload_n 0, 1) := dk_42 (dk_at dksX9_go_5 0 rfl rfl)
theorem dX9_go_117 : decode cX9_go 117 = .ok (.getfield 3, 3) := dk_180 0 3 (dk_at dksX9_go_5 1 rfl rfl)
theorem dX9_go_120 : decode cX9_go 120 = .ok (.getfield 32, 3) := dk_180 0 32 (dk_at dksX9_go_5 4 rfl rfl)
theorem dX9_go_123 : decode cX9_go 123 = .ok (.getfield 36, 3) := dk_180 0 36 (dk_at dksX9_go_5 7 rfl rfl)
theorem dX9_go_126 : decode cX9_go 126 = .ok (.iconst 1, 1) := dk_4 (dk_at dksX9_go_5 10 rfl rfl)
theorem dX9_go_127 : decode cX9_go 127 = .ok (.isub, 1) := dk_100 (dk_at dksX9_go_5 11 rfl rfl)
theorem dX9_go_128 : decode cX9_go 128 = .ok (.aload_n 0, 1) := dk_42 (dk_at dksX9_go_5 12 rfl rfl)
theorem dX9_go_129 : decode cX9_go 129 = .ok (.getfield 15, 3) := dk_180 0 15 (dk_at dksX9_go_5 13 rfl rfl)
theorem dX9_go_132 : decode cX9_go 132 = .ok (.iload_n 1, 1) := dk_27 (dk_at dksX9_go_5 16 rfl rfl)
theorem dX9_go_133 : decode cX9_go 133 = .ok (.iconst 1, 1) := dk_4 (dk_at dksX9_go_5 17 rfl rfl)
theorem dX9_go_134 : decode cX9_go 134 = .ok (.isub, 1) := dk_100 (dk_at dksX9_go_5 18 rfl rfl)
theorem dX9_go_135 : decode cX9_go 135 = .ok (.iaload, 1) := dk_46 (dk_at dksX9_go_5 19 rfl rfl)
theorem dX9_go_136 : decode cX9_go 136 = .ok (.iconst 1, 1) := dk_4 (dk_at dksX9_go_5 20 rfl rfl)
theorem dX9_go_137 : decode cX9_go 137 = .ok (.iadd, 1) := dk_96 (dk_at dksX9_go_5 21 rfl rfl)
theorem dX9_go_138 : decode cX9_go 138 = .ok (.invokestatic 58, 3) := dk_184 0 58 (dk_at dksX9_go_6 0 rfl rfl)
theorem dX9_go_141 : decode cX9_go 141 = .ok (.if_icmp .gt 23, 3) := dk_163 0 23 (dk_at dksX9_go_6 3 rfl rfl)
theorem dX9_go_144 : decode cX9_go 144 = .ok (.aload_n 0, 1) := dk_42 (dk_at dksX9_go_6 6 rfl rfl)
theorem dX9_go_145 : decode cX9_go 145 = .ok (.getfield 15, 3) := dk_180 0 15 (dk_at dksX9_go_6 7 rfl rfl)
theorem dX9_go_148 : decode cX9_go 148 = .ok (.iload_n 1, 1) := dk_27 (dk_at dksX9_go_6 10 rfl rfl)
theorem dX9_go_149 : decode cX9_go 149 = .ok (.iload_n 2, 1) := dk_28 (dk_at dksX9_go_6 11 rfl rfl)
theorem dX9_go_150 : decode cX9_go 150 = .ok (.iastore, 1) := dk_79 (dk_at dksX9_go_6 12 rfl rfl)
theorem dX9_go_151 : decode cX9_go 151 = .ok (.aload_n 0, 1) := dk_42 (dk_at dksX9_go_6 13 rfl rfl)
theorem dX9_go_152 : decode cX9_go 152 = .ok (.iload_n 1, 1) := dk_27 (dk_at dksX9_go_6 14 rfl rfl)
theorem dX9_go_153 : decode cX9_go 153 = .ok (.iconst 1, 1) := dk_4 (dk_at dksX9_go_6 15 rfl rfl)
theorem dX9_go_154 : decode cX9_go 154 = .ok (.iadd, 1) := dk_96 (dk_at dksX9_go_6 16 rfl rfl)
theorem dX9_go_155 : decode cX9_go 155 = .ok (.invokevirtual 45, 3) := dk_182 0 45 (dk_at dksX9_go_6 17 rfl rfl)
theorem dX9_go_158 : decode cX9_go 158 = .ok (.iinc 2 1, 3) := dk_132 2 1 (dk_at dksX9_go_6 20 rfl rfl)
theorem dX9_go_161 : decode cX9_go 161 = .ok (.goto (-46), 3) := dk_167 255 210 (dk_at dksX9_go_7 0 rfl rfl)
theorem dX9_go_164 : decode cX9_go 164 = .ok (.return_, 1) := dk_177 (dk_at dksX9_go_7 3 rfl rfl)
def dkwX9_looks_4 : List UInt8 := [167, 0, 4, 3, 172]
abbrev dktX9_looks_4 : List UInt8 := dkwX9_looks_4 ++ []
def dkwX9_looks_3 : List UInt8 := [104, 21, 4, 96, 46, 29, 160, 0, 5, 3, 172, 132, 4, 1, 167, 255, 188, 29, 158, 0, 7, 4]
abbrev dktX9_looks_3 : List UInt8 := dkwX9_looks_3 ++ dktX9_looks_4
def dkwX9_looks_2 : List UInt8 := [21, 4, 96, 46, 29, 163, 0, 28, 21, 4, 28, 162, 0, 24, 42, 180, 0, 22, 16, 6, 43, 21, 4, 46]
abbrev dktX9_looks_2 : List UInt8 := dkwX9_looks_2 ++ dktX9_looks_3
def dkwX9_looks_1 : List UInt8 := [162, 0, 65, 43, 21, 4, 46, 43, 28, 46, 160, 0, 49, 42, 180, 0, 22, 16, 6, 43, 21, 4, 46, 104]
abbrev dktX9_looks_1 : List UInt8 := dkwX9_looks_1 ++ dktX9_looks_2
def dkwX9_looks_0 : List UInt8 := [42, 180, 0, 22, 16, 6, 43, 28, 46, 104, 28, 96, 46, 62, 3, 54, 4, 21, 4, 42, 180, 0, 29]
abbrev dktX9_looks_0 : List UInt8 := dkwX9_looks_0 ++ dktX9_looks_1
theorem dksX9_looks_0 : cX9_looks.data.toList.drop 0 = dktX9_looks_0 := by decide +kernel
theorem dksX9_looks_1 : cX9_looks.data.toList.drop 23 = dktX9_looks_1 := dk_seg dksX9_looks_0 23 rfl rfl
theorem dksX9_looks_2 : cX9_looks.data.toList.drop 47 = dktX9_looks_2 := dk_seg dksX9_looks_1 24 rfl rfl
theorem dksX9_looks_3 : cX9_looks.data.toList.drop 71 = dktX9_looks_3 := dk_seg dksX9_looks_2 24 rfl rfl
theorem dksX9_looks_4 : cX9_looks.data.toList.drop 93 = dktX9_looks_4 := dk_seg dksX9_looks_3 22 rfl rfl
theorem dX9_looks_0 : decode cX9_looks 0 = .ok (.aload_n 0, 1) := dk_42 (dk_at dksX9_looks_0 0 rfl rfl)
theorem dX9_looks_1 : decode cX9_looks 1 = .ok (.getfield 22, 3) := dk_180 0 22 (dk_at dksX9_looks_0 1 rfl rfl)
theorem dX9_looks_4 : decode cX9_looks 4 = .ok (.bipush 6, 2) := dk_16 6 (dk_at dksX9_looks_0 4 rfl rfl)
theorem dX9_looks_6 : decode cX9_looks 6 = .ok (.aload_n 1, 1) := dk_43 (dk_at dksX9_looks_0 6 rfl rfl)
theorem dX9_looks_7 : decode cX9_looks 7 = .ok (.iload_n 2, 1) := dk_28 (dk_at dksX9_looks_0 7 rfl rfl)
theorem dX9_looks_8 : decode cX9_looks 8 = .ok (.iaload, 1) := dk_46 (dk_at dksX9_looks_0 8 rfl rfl)
theorem dX9_looks_9 : decode cX9_looks 9 = .ok (.imul, 1) := dk_104 (dk_at dksX9_looks_0 9 rfl rfl)
theorem dX9_looks_10 : decode cX9_looks 10 = .ok (.iload_n 2, 1) := dk_28 (dk_at dksX9_looks_0 10 rfl rfl)
theorem dX9_looks_11 : decode cX9_looks 11 = .ok (.iadd, 1) := dk_96 (dk_at dksX9_looks_0 11 rfl rfl)
theorem dX9_looks_12 : decode cX9_looks 12 = .ok (.iaload, 1) := dk_46 (dk_at dksX9_looks_0 12 rfl rfl)
theorem dX9_looks_13 : decode cX9_looks 13 = .ok (.istore_n 3, 1) := dk_62 (dk_at dksX9_looks_0 13 rfl rfl)
theorem dX9_looks_14 : decode cX9_looks 14 = .ok (.iconst 0, 1) := dk_3 (dk_at dksX9_looks_0 14 rfl rfl)
theorem dX9_looks_15 : decode cX9_looks 15 = .ok (.istore 4, 2) := dk_54 4 (dk_at dksX9_looks_0 15 rfl rfl)
theorem dX9_looks_17 : decode cX9_looks 17 = .ok (.iload 4, 2) := dk_21 4 (dk_at dksX9_looks_0 17 rfl rfl)
theorem dX9_looks_19 : decode cX9_looks 19 = .ok (.aload_n 0, 1) := dk_42 (dk_at dksX9_looks_0 19 rfl rfl)
theorem dX9_looks_20 : decode cX9_looks 20 = .ok (.getfield 29, 3) := dk_180 0 29 (dk_at dksX9_looks_0 20 rfl rfl)
theorem dX9_looks_23 : decode cX9_looks 23 = .ok (.if_icmp .ge 65, 3) := dk_162 0 65 (dk_at dksX9_looks_1 0 rfl rfl)
theorem dX9_looks_26 : decode cX9_looks 26 = .ok (.aload_n 1, 1) := dk_43 (dk_at dksX9_looks_1 3 rfl rfl)
theorem dX9_looks_27 : decode cX9_looks 27 = .ok (.iload 4, 2) := dk_21 4 (dk_at dksX9_looks_1 4 rfl rfl)
theorem dX9_looks_29 : decode cX9_looks 29 = .ok (.iaload, 1) := dk_46 (dk_at dksX9_looks_1 6 rfl rfl)
theorem dX9_looks_30 : decode cX9_looks 30 = .ok (.aload_n 1, 1) := dk_43 (dk_at dksX9_looks_1 7 rfl rfl)
theorem dX9_looks_31 : decode cX9_looks 31 = .ok (.iload_n 2, 1) := dk_28 (dk_at dksX9_looks_1 8 rfl rfl)
theorem dX9_looks_32 : decode cX9_looks 32 = .ok (.iaload, 1) := dk_46 (dk_at dksX9_looks_1 9 rfl rfl)
theorem dX9_looks_33 : decode cX9_looks 33 = .ok (.if_icmp .ne 49, 3) := dk_160 0 49 (dk_at dksX9_looks_1 10 rfl rfl)
theorem dX9_looks_36 : decode cX9_looks 36 = .ok (.aload_n 0, 1) := dk_42 (dk_at dksX9_looks_1 13 rfl rfl)
theorem dX9_looks_37 : decode cX9_looks 37 = .ok (.getfield 22, 3) := dk_180 0 22 (dk_at dksX9_looks_1 14 rfl rfl)
theorem dX9_looks_40 : decode cX9_looks 40 = .ok (.bipush 6, 2) := dk_16 6 (dk_at dksX9_looks_1 17 rfl rfl)
theorem dX9_looks_42 : decode cX9_looks 42 = .ok (.aload_n 1, 1) := dk_43 (dk_at dksX9_looks_1 19 rfl rfl)
theorem dX9_looks_43 : decode cX9_looks 43 = .ok (.iload 4, 2) := dk_21 4 (dk_at dksX9_looks_1 20 rfl rfl)
theorem dX9_looks_45 : decode cX9_looks 45 = .ok (.iaload, 1) := dk_46 (dk_at dksX9_looks_1 22 rfl rfl)
theorem dX9_looks_46 : decode cX9_looks 46 = .ok (.imul, 1) := dk_104 (dk_at dksX9_looks_1 23 rfl rfl)
theorem dX9_looks_47 : decode cX9_looks 47 = .ok (.iload 4, 2) := dk_21 4 (dk_at dksX9_looks_2 0 rfl rfl)
theorem dX9_looks_49 : decode cX9_looks 49 = .ok (.iadd, 1) := dk_96 (dk_at dksX9_looks_2 2 rfl rfl)
theorem dX9_looks_50 : decode cX9_looks 50 = .ok (.iaload, 1) := dk_46 (dk_at dksX9_looks_2 3 rfl rfl)
theorem dX9_looks_51 : decode cX9_looks 51 = .ok (.iload_n 3, 1) := dk_29 (dk_at dksX9_looks_2 4 rfl rfl)
theorem dX9_looks_52 : decode cX9_looks 52 = .ok (.if_icmp .gt 28, 3) := dk_163 0 28 (dk_at dksX9_looks_2 5 rfl rfl)
theorem dX9_looks_55 : decode cX9_looks 55 = .ok (.iload 4, 2) := dk_21 4 (dk_at dksX9_looks_2 8 rfl rfl)
theorem dX9_looks_57 : decode cX9_looks 57 = .ok (.iload_n 2, 1) := dk_28 (dk_at dksX9_looks_2 10 rfl rfl)
theorem dX9_looks_58 : decode cX9_looks 58 = .ok (.if_icmp .ge 24, 3) := dk_162 0 24 (dk_at dksX9_looks_2 11 rfl rfl)
theorem dX9_looks_61 : decode cX9_looks 61 = .ok (.aload_n 0, 1) := dk_42 (dk_at dksX9_looks_2 14 rfl rfl)
theorem dX9_looks_62 : decode cX9_looks 62 = .ok (.getfield 22, 3) := dk_180 0 22 (dk_at dksX9_looks_2 15 rfl rfl)
theorem dX9_looks_65 : decode cX9_looks 65 = .ok (.bipush 6, 2) := dk_16 6 (dk_at dksX9_looks_2 18 rfl rfl)
theorem dX9_looks_67 : decode cX9_looks 67 = .ok (.aload_n 1, 1) := dk_43 (dk_at dksX9_looks_2 20 rfl rfl)
theorem dX9_looks_68 : decode cX9_looks 68 = .ok (.iload 4, 2) := dk_21 4 (dk_at dksX9_looks_2 21 rfl rfl)
theorem dX9_looks_70 : decode cX9_looks 70 = .ok (.iaload, 1) := dk_46 (dk_at dksX9_looks_2 23 rfl rfl)
theorem dX9_looks_71 : decode cX9_looks 71 = .ok (.imul, 1) := dk_104 (dk_at dksX9_looks_3 0 rfl rfl)
theorem dX9_looks_72 : decode cX9_looks 72 = .ok (.iload 4, 2) := dk_21 4 (dk_at dksX9_looks_3 1 rfl rfl)
theorem dX9_looks_74 : decode cX9_looks 74 = .ok (.iadd, 1) := dk_96 (dk_at dksX9_looks_3 3 rfl rfl)
theorem dX9_looks_75 : decode cX9_looks 75 = .ok (.iaload, 1) := dk_46 (dk_at dksX9_looks_3 4 rfl rfl)
theorem dX9_looks_76 : decode cX9_looks 76 = .ok (.iload_n 3, 1) := dk_29 (dk_at dksX9_looks_3 5 rfl rfl)
theorem dX9_looks_77 : decode cX9_looks 77 = .ok (.if_icmp .ne 5, 3) := dk_160 0 5 (dk_at dksX9_looks_3 6 rfl rfl)
theorem dX9_looks_80 : decode cX9_looks 80 = .ok (.iconst 0, 1) := dk_3 (dk_at dksX9_looks_3 9 rfl rfl)
theorem dX9_looks_81 : decode cX9_looks 81 = .ok (.ireturn, 1) := dk_172 (dk_at dksX9_looks_3 10 rfl rfl)
theorem dX9_looks_82 : decode cX9_looks 82 = .ok (.iinc 4 1, 3) := dk_132 4 1 (dk_at dksX9_looks_3 11 rfl rfl)
theorem dX9_looks_85 : decode cX9_looks 85 = .ok (.goto (-68), 3) := dk_167 255 188 (dk_at dksX9_looks_3 14 rfl rfl)
theorem dX9_looks_88 : decode cX9_looks 88 = .ok (.iload_n 3, 1) := dk_29 (dk_at dksX9_looks_3 17 rfl rfl)
theorem dX9_looks_89 : decode cX9_looks 89 = .ok (.ifCond .le 7, 3) := dk_158 0 7 (dk_at dksX9_looks_3 18 rfl rfl)
theorem dX9_looks_92 : decode cX9_looks 92 = .ok (.iconst 1, 1) := dk_4 (dk_at dksX9_looks_3 21 rfl rfl)
theorem dX9_looks_93 : decode cX9_looks 93 = .ok (.goto 4, 3) := dk_167 0 4 (dk_at dksX9_looks_4 0 rfl rfl)
theorem dX9_looks_96 : decode cX9_looks 96 = .ok (.iconst 0, 1) := dk_3 (dk_at dksX9_looks_4 3 rfl rfl)
theorem dX9_looks_97 : decode cX9_looks 97 = .ok (.ireturn, 1) := dk_172 (dk_at dksX9_looks_4 4 rfl rfl)
theorem dJ0_init_0 : decode cJ0_init 0 = .ok (.aload_n 0, 1) := by decide +kernel
theorem dJ0_init_1 : decode cJ0_init 1 = .ok (.invokespecial 1, 3) := by decide +kernel
theorem dJ0_init_4 : decode cJ0_init 4 = .ok (.return_, 1) := by decide +kernel
def dkwJ1_init_0 : List UInt8 := [42, 183, 0, 1, 42, 3, 181, 0, 7, 177]
abbrev dktJ1_init_0 : List UInt8 := dkwJ1_init_0 ++ []
theorem dksJ1_init_0 : cJ1_init.data.toList.drop 0 = dktJ1_init_0 := by decide +kernel
theorem dJ1_init_0 : decode cJ1_init 0 = .ok (.aload_n 0, 1) := dk_42 (dk_at dksJ1_init_0 0 rfl rfl)
theorem dJ1_init_1 : decode cJ1_init 1 = .ok (.invokespecial 1, 3) := dk_183 0 1 (dk_at dksJ1_init_0 1 rfl rfl)
theorem dJ1_init_4 : decode cJ1_init 4 = .ok (.aload_n 0, 1) := dk_42 (dk_at dksJ1_init_0 4 rfl rfl)
theorem dJ1_init_5 : decode cJ1_init 5 = .ok (.iconst 0, 1) := dk_3 (dk_at dksJ1_init_0 5 rfl rfl)
theorem dJ1_init_6 : decode cJ1_init 6 = .ok (.putfield 7, 3) := dk_181 0 7 (dk_at dksJ1_init_0 6 rfl rfl)
theorem dJ1_init_9 : decode cJ1_init 9 = .ok (.return_, 1) := dk_177 (dk_at dksJ1_init_0 9 rfl rfl)
def dkwJ10_checkIndex_0 : List UInt8 := [26, 155, 0, 8, 26, 27, 161, 0, 10, 44, 26, 27, 184, 0, 95, 191, 26, 172]
abbrev dktJ10_checkIndex_0 : List UInt8 := dkwJ10_checkIndex_0 ++ []
theorem dksJ10_checkIndex_0 : cJ10_checkIndex.data.toList.drop 0 = dktJ10_checkIndex_0 := by decide +kernel
theorem dJ10_checkIndex_0 : decode cJ10_checkIndex 0 = .ok (.iload_n 0, 1) := dk_26 (dk_at dksJ10_checkIndex_0 0 rfl rfl)
theorem dJ10_checkIndex_1 : decode cJ10_checkIndex 1 = .ok (.ifCond .lt 8, 3) := dk_155 0 8 (dk_at dksJ10_checkIndex_0 1 rfl rfl)
theorem dJ10_checkIndex_4 : decode cJ10_checkIndex 4 = .ok (.iload_n 0, 1) := dk_26 (dk_at dksJ10_checkIndex_0 4 rfl rfl)
theorem dJ10_checkIndex_5 : decode cJ10_checkIndex 5 = .ok (.iload_n 1, 1) := dk_27 (dk_at dksJ10_checkIndex_0 5 rfl rfl)
theorem dJ10_checkIndex_6 : decode cJ10_checkIndex 6 = .ok (.if_icmp .lt 10, 3) := dk_161 0 10 (dk_at dksJ10_checkIndex_0 6 rfl rfl)
theorem dJ10_checkIndex_9 : decode cJ10_checkIndex 9 = .ok (.aload_n 2, 1) := dk_44 (dk_at dksJ10_checkIndex_0 9 rfl rfl)
theorem dJ10_checkIndex_10 : decode cJ10_checkIndex 10 = .ok (.iload_n 0, 1) := dk_26 (dk_at dksJ10_checkIndex_0 10 rfl rfl)
theorem dJ10_checkIndex_11 : decode cJ10_checkIndex 11 = .ok (.iload_n 1, 1) := dk_27 (dk_at dksJ10_checkIndex_0 11 rfl rfl)
theorem dJ10_checkIndex_12 : decode cJ10_checkIndex 12 = .ok (.invokestatic 95, 3) := dk_184 0 95 (dk_at dksJ10_checkIndex_0 12 rfl rfl)
theorem dJ10_checkIndex_15 : decode cJ10_checkIndex 15 = .ok (.athrow, 1) := dk_191 (dk_at dksJ10_checkIndex_0 15 rfl rfl)
theorem dJ10_checkIndex_16 : decode cJ10_checkIndex 16 = .ok (.iload_n 0, 1) := dk_26 (dk_at dksJ10_checkIndex_0 16 rfl rfl)
theorem dJ10_checkIndex_17 : decode cJ10_checkIndex 17 = .ok (.ireturn, 1) := dk_172 (dk_at dksJ10_checkIndex_0 17 rfl rfl)
def dkwJ11_charAt_0 : List UInt8 := [27, 42, 184, 0, 67, 42, 27, 184, 0, 71, 172]
abbrev dktJ11_charAt_0 : List UInt8 := dkwJ11_charAt_0 ++ []
theorem dksJ11_charAt_0 : cJ11_charAt.data.toList.drop 0 = dktJ11_charAt_0 := by decide +kernel
theorem dJ11_charAt_0 : decode cJ11_charAt 0 = .ok (.iload_n 1, 1) := dk_27 (dk_at dksJ11_charAt_0 0 rfl rfl)
theorem dJ11_charAt_1 : decode cJ11_charAt 1 = .ok (.aload_n 0, 1) := dk_42 (dk_at dksJ11_charAt_0 1 rfl rfl)
theorem dJ11_charAt_2 : decode cJ11_charAt 2 = .ok (.invokestatic 67, 3) := dk_184 0 67 (dk_at dksJ11_charAt_0 2 rfl rfl)
theorem dJ11_charAt_5 : decode cJ11_charAt 5 = .ok (.aload_n 0, 1) := dk_42 (dk_at dksJ11_charAt_0 5 rfl rfl)
theorem dJ11_charAt_6 : decode cJ11_charAt 6 = .ok (.iload_n 1, 1) := dk_27 (dk_at dksJ11_charAt_0 6 rfl rfl)
theorem dJ11_charAt_7 : decode cJ11_charAt 7 = .ok (.invokestatic 71, 3) := dk_184 0 71 (dk_at dksJ11_charAt_0 7 rfl rfl)
theorem dJ11_charAt_10 : decode cJ11_charAt 10 = .ok (.ireturn, 1) := dk_172 (dk_at dksJ11_charAt_0 10 rfl rfl)
def dkwJ11_checkIndex_0 : List UInt8 := [26, 43, 184, 0, 48, 184, 1, 158, 177]
abbrev dktJ11_checkIndex_0 : List UInt8 := dkwJ11_checkIndex_0 ++ []
theorem dksJ11_checkIndex_0 : cJ11_checkIndex.data.toList.drop 0 = dktJ11_checkIndex_0 := by decide +kernel
theorem dJ11_checkIndex_0 : decode cJ11_checkIndex 0 = .ok (.iload_n 0, 1) := dk_26 (dk_at dksJ11_checkIndex_0 0 rfl rfl)
theorem dJ11_checkIndex_1 : decode cJ11_checkIndex 1 = .ok (.aload_n 1, 1) := dk_43 (dk_at dksJ11_checkIndex_0 1 rfl rfl)
theorem dJ11_checkIndex_2 : decode cJ11_checkIndex 2 = .ok (.invokestatic 48, 3) := dk_184 0 48 (dk_at dksJ11_checkIndex_0 2 rfl rfl)
theorem dJ11_checkIndex_5 : decode cJ11_checkIndex 5 = .ok (.invokestatic 414, 3) := dk_184 1 158 (dk_at dksJ11_checkIndex_0 5 rfl rfl)
theorem dJ11_checkIndex_8 : decode cJ11_checkIndex 8 = .ok (.return_, 1) := dk_177 (dk_at dksJ11_checkIndex_0 8 rfl rfl)
def dkwJ11_length_0 : List UInt8 := [42, 190, 4, 122, 172]
abbrev dktJ11_length_0 : List UInt8 := dkwJ11_length_0 ++ []
theorem dksJ11_length_0 : cJ11_length.data.toList.drop 0 = dktJ11_length_0 := by decide +kernel
theorem dJ11_length_0 : decode cJ11_length 0 = .ok (.aload_n 0, 1) := dk_42 (dk_at dksJ11_length_0 0 rfl rfl)
theorem dJ11_length_1 : decode cJ11_length 1 = .ok (.arraylength, 1) := dk_190 (dk_at dksJ11_length_0 1 rfl rfl)
theorem dJ11_length_2 : decode cJ11_length 2 = .ok (.iconst 1, 1) := dk_4 (dk_at dksJ11_length_0 2 rfl rfl)
theorem dJ11_length_3 : decode cJ11_length 3 = .ok (.ishr, 1) := dk_122 (dk_at dksJ11_length_0 3 rfl rfl)
theorem dJ11_length_4 : decode cJ11_length 4 = .ok (.ireturn, 1) := dk_172 (dk_at dksJ11_length_0 4 rfl rfl)
def dkwJ11_getChar_2 : List UInt8 := [51, 17, 0, 255, 126, 178, 0, 63, 120, 128, 146, 172]
abbrev dktJ11_getChar_2 : List UInt8 := dkwJ11_getChar_2 ++ []
def dkwJ11_getChar_1 : List UInt8 := [183, 0, 56, 191, 27, 4, 120, 60, 42, 27, 132, 1, 1, 51, 17, 0, 255, 126, 178, 0, 59, 120, 42, 27]
abbrev dktJ11_getChar_1 : List UInt8 := dkwJ11_getChar_1 ++ dktJ11_getChar_2
def dkwJ11_getChar_0 : List UInt8 := [178, 0, 44, 154, 0, 25, 27, 155, 0, 11, 27, 42, 184, 0, 48, 161, 0, 13, 187, 0, 52, 89, 18, 54]
abbrev dktJ11_getChar_0 : List UInt8 := dkwJ11_getChar_0 ++ dktJ11_getChar_1
theorem dksJ11_getChar_0 : cJ11_getChar.data.toList.drop 0 = dktJ11_getChar_0 := by decide +kernel
theorem dksJ11_getChar_1 : cJ11_getChar.data.toList.drop 24 = dktJ11_getChar_1 := dk_seg dksJ11_getChar_0 24 rfl rfl
theorem dksJ11_getChar_2 : cJ11_getChar.data.toList.drop 48 = dktJ11_getChar_2 := dk_seg dksJ11_getChar_1 24 rfl rfl
theorem dJ11_getChar_0 : decode cJ11_getChar 0 = .ok (.getstatic 44, 3) := dk_178 0 44 (dk_at dksJ11_getChar_0 0 rfl rfl)
theorem dJ11_getChar_3 : decode cJ11_getChar 3 = .ok (.ifCond .ne 25, 3) := dk_154 0 25 (dk_at dksJ11_getChar_0 3 rfl rfl)
theorem dJ11_getChar_6 : decode cJ11_getChar 6 = .ok (.iload_n 1, 1) := dk_27 (dk_at dksJ11_getChar_0 6 rfl rfl)
theorem dJ11_getChar_7 : decode cJ11_getChar 7 = .ok (.ifCond .lt 11, 3) := dk_155 0 11 (dk_at dksJ11_getChar_0 7 rfl rfl)
theorem dJ11_getChar_10 : decode cJ11_getChar 10 = .ok (.iload_n 1, 1) := dk_27 (dk_at dksJ11_getChar_0 10 rfl rfl)
theorem dJ11_getChar_11 : decode cJ11_getChar 11 = .ok (.aload_n 0, 1) := dk_42 (dk_at dksJ11_getChar_0 11 rfl rfl)
theorem dJ11_getChar_12 : decode cJ11_getChar 12 = .ok (.invokestatic 48, 3) := dk_184 0 48 (dk_at dksJ11_getChar_0 12 rfl rfl)
theorem dJ11_getChar_15 : decode cJ11_getChar 15 = .ok (.if_icmp .lt 13, 3) := dk_161 0 13 (dk_at dksJ11_getChar_0 15 rfl rfl)
theorem dJ11_getChar_18 : decode cJ11_getChar 18 = .ok (.new 52, 3) := dk_187 0 52 (dk_at dksJ11_getChar_0 18 rfl rfl)
theorem dJ11_getChar_21 : decode cJ11_getChar 21 = .ok (.dup, 1) := dk_89 (dk_at dksJ11_getChar_0 21 rfl rfl)
theorem dJ11_getChar_22 : decode cJ11_getChar 22 = .ok (.ldc 54, 2) := dk_18 54 (dk_at dksJ11_getChar_0 22 rfl rfl)
theorem dJ11_getChar_24 : decode cJ11_getChar 24 = .ok (.invokespecial 56, 3) := dk_183 0 56 (dk_at dksJ11_getChar_1 0 rfl rfl)
theorem dJ11_getChar_27 : decode cJ11_getChar 27 = .ok (.athrow, 1) := dk_191 (dk_at dksJ11_getChar_1 3 rfl rfl)
theorem dJ11_getChar_28 : decode cJ11_getChar 28 = .ok (.iload_n 1, 1) := dk_27 (dk_at dksJ11_getChar_1 4 rfl rfl)
theorem dJ11_getChar_29 : decode cJ11_getChar 29 = .ok (.iconst 1, 1) := dk_4 (dk_at dksJ11_getChar_1 5 rfl rfl)
theorem dJ11_getChar_30 : decode cJ11_getChar 30 = .ok (.ishl, 1) := dk_120 (dk_at dksJ11_getChar_1 6 rfl rfl)
theorem dJ11_getChar_31 : decode cJ11_getChar 31 = .ok (.istore_n 1, 1) := dk_60 (dk_at dksJ11_getChar_1 7 rfl rfl)
theorem dJ11_getChar_32 : decode cJ11_getChar 32 = .ok (.aload_n 0, 1) := dk_42 (dk_at dksJ11_getChar_1 8 rfl rfl)
theorem dJ11_getChar_33 : decode cJ11_getChar 33 = .ok (.iload_n 1, 1) := dk_27 (dk_at dksJ11_getChar_1 9 rfl rfl)
theorem dJ11_getChar_34 : decode cJ11_getChar 34 = .ok (.iinc 1 1, 3) := dk_132 1 1 (dk_at dksJ11_getChar_1 10 rfl rfl)
theorem dJ11_getChar_37 : decode cJ11_getChar 37 = .ok (.baload, 1) := dk_51 (dk_at dksJ11_getChar_1 13 rfl rfl)
theorem dJ11_getChar_38 : decode cJ11_getChar 38 = .ok (.sipush 255, 3) := dk_17 0 255 (dk_at dksJ11_getChar_1 14 rfl rfl)
theorem dJ11_getChar_41 : decode cJ11_getChar 41 = .ok (.iand, 1) := dk_126 (dk_at dksJ11_getChar_1 17 rfl rfl)
theorem dJ11_getChar_42 : decode cJ11_getChar 42 = .ok (.getstatic 59, 3) := dk_178 0 59 (dk_at dksJ11_getChar_1 18 rfl rfl)
theorem dJ11_getChar_45 : decode cJ11_getChar 45 = .ok (.ishl, 1) := dk_120 (dk_at dksJ11_getChar_1 21 rfl rfl)
theorem dJ11_getChar_46 : decode cJ11_getChar 46 = .ok (.aload_n 0, 1) := dk_42 (dk_at dksJ11_getChar_1 22 rfl rfl)
theorem dJ11_getChar_47 : decode cJ11_getChar 47 = .ok (.iload_n 1, 1) := dk_27 (dk_at dksJ11_getChar_1 23 rfl rfl)
theorem dJ11_getChar_48 : decode cJ11_getChar 48 = .ok (.baload, 1) := dk_51 (dk_at dksJ11_getChar_2 0 rfl rfl)
theorem dJ11_getChar_49 : decode cJ11_getChar 49 = .ok (.sipush 255, 3) := dk_17 0 255 (dk_at dksJ11_getChar_2 1 rfl rfl)
theorem dJ11_getChar_52 : decode cJ11_getChar 52 = .ok (.iand, 1) := dk_126 (dk_at dksJ11_getChar_2 4 rfl rfl)
theorem dJ11_getChar_53 : decode cJ11_getChar 53 = .ok (.getstatic 63, 3) := dk_178 0 63 (dk_at dksJ11_getChar_2 5 rfl rfl)
theorem dJ11_getChar_56 : decode cJ11_getChar 56 = .ok (.ishl, 1) := dk_120 (dk_at dksJ11_getChar_2 8 rfl rfl)
theorem dJ11_getChar_57 : decode cJ11_getChar 57 = .ok (.ior, 1) := dk_128 (dk_at dksJ11_getChar_2 9 rfl rfl)
theorem dJ11_getChar_58 : decode cJ11_getChar 58 = .ok (.i2c, 1) := dk_146 (dk_at dksJ11_getChar_2 10 rfl rfl)
theorem dJ11_getChar_59 : decode cJ11_getChar 59 = .ok (.ireturn, 1) := dk_172 (dk_at dksJ11_getChar_2 11 rfl rfl)
def dkwJ12_checkIndex_0 : List UInt8 := [26, 27, 1, 184, 0, 105, 172]
abbrev dktJ12_checkIndex_0 : List UInt8 := dkwJ12_checkIndex_0 ++ []
theorem dksJ12_checkIndex_0 : cJ12_checkIndex.data.toList.drop 0 = dktJ12_checkIndex_0 := by decide +kernel
theorem dJ12_checkIndex_0 : decode cJ12_checkIndex 0 = .ok (.iload_n 0, 1) := dk_26 (dk_at dksJ12_checkIndex_0 0 rfl rfl)
theorem dJ12_checkIndex_1 : decode cJ12_checkIndex 1 = .ok (.iload_n 1, 1) := dk_27 (dk_at dksJ12_checkIndex_0 1 rfl rfl)
theorem dJ12_checkIndex_2 : decode cJ12_checkIndex 2 = .ok (.aconst_null, 1) := dk_1 (dk_at dksJ12_checkIndex_0 2 rfl rfl)
theorem dJ12_checkIndex_3 : decode cJ12_checkIndex 3 = .ok (.invokestatic 105, 3) := dk_184 0 105 (dk_at dksJ12_checkIndex_0 3 rfl rfl)
theorem dJ12_checkIndex_6 : decode cJ12_checkIndex 6 = .ok (.ireturn, 1) := dk_172 (dk_at dksJ12_checkIndex_0 6 rfl rfl)
def dkwJ13_newLength_1 : List UInt8 := [184, 0, 201, 172]
abbrev dktJ13_newLength_1 : List UInt8 := dkwJ13_newLength_1 ++ []
def dkwJ13_newLength_0 : List UInt8 := [26, 27, 28, 184, 0, 194, 96, 62, 3, 29, 162, 0, 11, 29, 18, 200, 163, 0, 5, 29, 172, 26, 27]
abbrev dktJ13_newLength_0 : List UInt8 := dkwJ13_newLength_0 ++ dktJ13_newLength_1
theorem dksJ13_newLength_0 : cJ13_newLength.data.toList.drop 0 = dktJ13_newLength_0 := by decide +kernel
theorem dksJ13_newLength_1 : cJ13_newLength.data.toList.drop 23 = dktJ13_newLength_1 := dk_seg dksJ13_newLength_0 23 rfl rfl
theorem dJ13_newLength_0 : decode cJ13_newLength 0 = .ok (.iload_n 0, 1) := dk_26 (dk_at dksJ13_newLength_0 0 rfl rfl)
theorem dJ13_newLength_1 : decode cJ13_newLength 1 = .ok (.iload_n 1, 1) := dk_27 (dk_at dksJ13_newLength_0 1 rfl rfl)
theorem dJ13_newLength_2 : decode cJ13_newLength 2 = .ok (.iload_n 2, 1) := dk_28 (dk_at dksJ13_newLength_0 2 rfl rfl)
theorem dJ13_newLength_3 : decode cJ13_newLength 3 = .ok (.invokestatic 194, 3) := dk_184 0 194 (dk_at dksJ13_newLength_0 3 rfl rfl)
theorem dJ13_newLength_6 : decode cJ13_newLength 6 = .ok (.iadd, 1) := dk_96 (dk_at dksJ13_newLength_0 6 rfl rfl)
theorem dJ13_newLength_7 : decode cJ13_newLength 7 = .ok (.istore_n 3, 1) := dk_62 (dk_at dksJ13_newLength_0 7 rfl rfl)
theorem dJ13_newLength_8 : decode cJ13_newLength 8 = .ok (.iconst 0, 1) := dk_3 (dk_at dksJ13_newLength_0 8 rfl rfl)
theorem dJ13_newLength_9 : decode cJ13_newLength 9 = .ok (.iload_n 3, 1) := dk_29 (dk_at dksJ13_newLength_0 9 rfl rfl)
theorem dJ13_newLength_10 : decode cJ13_newLength 10 = .ok (.if_icmp .ge 11, 3) := dk_162 0 11 (dk_at dksJ13_newLength_0 10 rfl rfl)
theorem dJ13_newLength_13 : decode cJ13_newLength 13 = .ok (.iload_n 3, 1) := dk_29 (dk_at dksJ13_newLength_0 13 rfl rfl)
theorem dJ13_newLength_14 : decode cJ13_newLength 14 = .ok (.ldc 200, 2) := dk_18 200 (dk_at dksJ13_newLength_0 14 rfl rfl)
theorem dJ13_newLength_16 : decode cJ13_newLength 16 = .ok (.if_icmp .gt 5, 3) := dk_163 0 5 (dk_at dksJ13_newLength_0 16 rfl rfl)
theorem dJ13_newLength_19 : decode cJ13_newLength 19 = .ok (.iload_n 3, 1) := dk_29 (dk_at dksJ13_newLength_0 19 rfl rfl)
theorem dJ13_newLength_20 : decode cJ13_newLength 20 = .ok (.ireturn, 1) := dk_172 (dk_at dksJ13_newLength_0 20 rfl rfl)
theorem dJ13_newLength_21 : decode cJ13_newLength 21 = .ok (.iload_n 0, 1) := dk_26 (dk_at dksJ13_newLength_0 21 rfl rfl)
theorem dJ13_newLength_22 : decode cJ13_newLength 22 = .ok (.iload_n 1, 1) := dk_27 (dk_at dksJ13_newLength_0 22 rfl rfl)
theorem dJ13_newLength_23 : decode cJ13_newLength 23 = .ok (.invokestatic 201, 3) := dk_184 0 201 (dk_at dksJ13_newLength_1 0 rfl rfl)
theorem dJ13_newLength_26 : decode cJ13_newLength 26 = .ok (.ireturn, 1) := dk_172 (dk_at dksJ13_newLength_1 3 rfl rfl)
def dkwJ13_hugeLength_2 : List UInt8 := [191, 28, 18, 200, 163, 0, 6, 18, 200, 172, 28, 172]
abbrev dktJ13_hugeLength_2 : List UInt8 := dkwJ13_hugeLength_2 ++ []
def dkwJ13_hugeLength_1 : List UInt8 := [26, 182, 0, 98, 18, 208, 182, 0, 94, 27, 182, 0, 98, 18, 210, 182, 0, 94, 182, 0, 101, 183, 0, 212]
abbrev dktJ13_hugeLength_1 : List UInt8 := dkwJ13_hugeLength_1 ++ dktJ13_hugeLength_2
def dkwJ13_hugeLength_0 : List UInt8 := [26, 27, 96, 61, 28, 156, 0, 44, 187, 0, 204, 89, 187, 0, 89, 89, 183, 0, 91, 18, 206, 182, 0, 94]
abbrev dktJ13_hugeLength_0 : List UInt8 := dkwJ13_hugeLength_0 ++ dktJ13_hugeLength_1
theorem dksJ13_hugeLength_0 : cJ13_hugeLength.data.toList.drop 0 = dktJ13_hugeLength_0 := by decide +kernel
theorem dksJ13_hugeLength_1 : cJ13_hugeLength.data.toList.drop 24 = dktJ13_hugeLength_1 := dk_seg dksJ13_hugeLength_0 24 rfl rfl
theorem dksJ13_hugeLength_2 : cJ13_hugeLength.data.toList.drop 48 = dktJ13_hugeLength_2 := dk_seg dksJ13_hugeLength_1 24 rfl rfl
theorem dJ13_hugeLength_0 : decode cJ13_hugeLength 0 = .ok (.iload_n 0, 1) := dk_26 (dk_at dksJ13_hugeLength_0 0 rfl rfl)
theorem dJ13_hugeLength_1 : decode cJ13_hugeLength 1 = .ok (.iload_n 1, 1) := dk_27 (dk_at dksJ13_hugeLength_0 1 rfl rfl)
theorem dJ13_hugeLength_2 : decode cJ13_hugeLength 2 = .ok (.iadd, 1) := dk_96 (dk_at dksJ13_hugeLength_0 2 rfl rfl)
theorem dJ13_hugeLength_3 : decode cJ13_hugeLength 3 = .ok (.istore_n 2, 1) := dk_61 (dk_at dksJ13_hugeLength_0 3 rfl rfl)
theorem dJ13_hugeLength_4 : decode cJ13_hugeLength 4 = .ok (.iload_n 2, 1) := dk_28 (dk_at dksJ13_hugeLength_0 4 rfl rfl)
theorem dJ13_hugeLength_5 : decode cJ13_hugeLength 5 = .ok (.ifCond .ge 44, 3) := dk_156 0 44 (dk_at dksJ13_hugeLength_0 5 rfl rfl)
theorem dJ13_hugeLength_8 : decode cJ13_hugeLength 8 = .ok (.new 204, 3) := dk_187 0 204 (dk_at dksJ13_hugeLength_0 8 rfl rfl)
theorem dJ13_hugeLength_11 : decode cJ13_hugeLength 11 = .ok (.dup, 1) := dk_89 (dk_at dksJ13_hugeLength_0 11 rfl rfl)
theorem dJ13_hugeLength_12 : decode cJ13_hugeLength 12 = .ok (.new 89, 3) := dk_187 0 89 (dk_at dksJ13_hugeLength_0 12 rfl rfl)
theorem dJ13_hugeLength_15 : decode cJ13_hugeLength 15 = .ok (.dup, 1) := dk_89 (dk_at dksJ13_hugeLength_0 15 rfl rfl)
theorem dJ13_hugeLength_16 : decode cJ13_hugeLength 16 = .ok (.invokespecial 91, 3) := dk_183 0 91 (dk_at dksJ13_hugeLength_0 16 rfl rfl)
theorem dJ13_hugeLength_19 : decode cJ13_hugeLength 19 = .ok (.ldc 206, 2) := dk_18 206 (dk_at dksJ13_hugeLength_0 19 rfl rfl)
theorem dJ13_hugeLength_21 : decode cJ13_hugeLength 21 = .ok (.invokevirtual 94, 3) := dk_182 0 94 (dk_at dksJ13_hugeLength_0 21 rfl rfl)
theorem dJ13_hugeLength_24 : decode cJ13_hugeLength 24 = .ok (.iload_n 0, 1) := dk_26 (dk_at dksJ13_hugeLength_1 0 rfl rfl)
theorem dJ13_hugeLength_25 : decode cJ13_hugeLength 25 = .ok (.invokevirtual 98, 3) := dk_182 0 98 (dk_at dksJ13_hugeLength_1 1 rfl rfl)
theorem dJ13_hugeLength_28 : decode cJ13_hugeLength 28 = .ok (.ldc 208, 2) := dk_18 208 (dk_at dksJ13_hugeLength_1 4 rfl rfl)
theorem dJ13_hugeLength_30 : decode cJ13_hugeLength 30 = .ok (.invokevirtual 94, 3) := dk_182 0 94 (dk_at dksJ13_hugeLength_1 6 rfl rfl)
theorem dJ13_hugeLength_33 : decode cJ13_hugeLength 33 = .ok (.iload_n 1, 1) := dk_27 (dk_at dksJ13_hugeLength_1 9 rfl rfl)
theorem dJ13_hugeLength_34 : decode cJ13_hugeLength 34 = .ok (.invokevirtual 98, 3) := dk_182 0 98 (dk_at dksJ13_hugeLength_1 10 rfl rfl)
theorem dJ13_hugeLength_37 : decode cJ13_hugeLength 37 = .ok (.ldc 210, 2) := dk_18 210 (dk_at dksJ13_hugeLength_1 13 rfl rfl)
theorem dJ13_hugeLength_39 : decode cJ13_hugeLength 39 = .ok (.invokevirtual 94, 3) := dk_182 0 94 (dk_at dksJ13_hugeLength_1 15 rfl rfl)
theorem dJ13_hugeLength_42 : decode cJ13_hugeLength 42 = .ok (.invokevirtual 101, 3) := dk_182 0 101 (dk_at dksJ13_hugeLength_1 18 rfl rfl)
theorem dJ13_hugeLength_45 : decode cJ13_hugeLength 45 = .ok (.invokespecial 212, 3) := dk_183 0 212 (dk_at dksJ13_hugeLength_1 21 rfl rfl)
theorem dJ13_hugeLength_48 : decode cJ13_hugeLength 48 = .ok (.athrow, 1) := dk_191 (dk_at dksJ13_hugeLength_2 0 rfl rfl)
theorem dJ13_hugeLength_49 : decode cJ13_hugeLength 49 = .ok (.iload_n 2, 1) := dk_28 (dk_at dksJ13_hugeLength_2 1 rfl rfl)
theorem dJ13_hugeLength_50 : decode cJ13_hugeLength 50 = .ok (.ldc 200, 2) := dk_18 200 (dk_at dksJ13_hugeLength_2 2 rfl rfl)
theorem dJ13_hugeLength_52 : decode cJ13_hugeLength 52 = .ok (.if_icmp .gt 6, 3) := dk_163 0 6 (dk_at dksJ13_hugeLength_2 4 rfl rfl)
theorem dJ13_hugeLength_55 : decode cJ13_hugeLength 55 = .ok (.ldc 200, 2) := dk_18 200 (dk_at dksJ13_hugeLength_2 7 rfl rfl)
theorem dJ13_hugeLength_57 : decode cJ13_hugeLength 57 = .ok (.ireturn, 1) := dk_172 (dk_at dksJ13_hugeLength_2 9 rfl rfl)
theorem dJ13_hugeLength_58 : decode cJ13_hugeLength 58 = .ok (.iload_n 2, 1) := dk_28 (dk_at dksJ13_hugeLength_2 10 rfl rfl)
theorem dJ13_hugeLength_59 : decode cJ13_hugeLength 59 = .ok (.ireturn, 1) := dk_172 (dk_at dksJ13_hugeLength_2 11 rfl rfl)
def dkwJ14_copyOf_0 : List UInt8 := [42, 27, 42, 182, 0, 86, 184, 1, 44, 176]
abbrev dktJ14_copyOf_0 : List UInt8 := dkwJ14_copyOf_0 ++ []
theorem dksJ14_copyOf_0 : cJ14_copyOf.data.toList.drop 0 = dktJ14_copyOf_0 := by decide +kernel
theorem dJ14_copyOf_0 : decode cJ14_copyOf 0 = .ok (.aload_n 0, 1) := dk_42 (dk_at dksJ14_copyOf_0 0 rfl rfl)
theorem dJ14_copyOf_1 : decode cJ14_copyOf 1 = .ok (.iload_n 1, 1) := dk_27 (dk_at dksJ14_copyOf_0 1 rfl rfl)
theorem dJ14_copyOf_2 : decode cJ14_copyOf 2 = .ok (.aload_n 0, 1) := dk_42 (dk_at dksJ14_copyOf_0 2 rfl rfl)
theorem dJ14_copyOf_3 : decode cJ14_copyOf 3 = .ok (.invokevirtual 86, 3) := dk_182 0 86 (dk_at dksJ14_copyOf_0 3 rfl rfl)
theorem dJ14_copyOf_6 : decode cJ14_copyOf 6 = .ok (.invokestatic 300, 3) := dk_184 1 44 (dk_at dksJ14_copyOf_0 6 rfl rfl)
theorem dJ14_copyOf_9 : decode cJ14_copyOf 9 = .ok (.areturn, 1) := dk_176 (dk_at dksJ14_copyOf_0 9 rfl rfl)
def dkwJ14_copyOf_2_1 : List UInt8 := [78, 42, 3, 45, 3, 42, 190, 27, 184, 1, 48, 184, 0, 150, 45, 176]
abbrev dktJ14_copyOf_2_1 : List UInt8 := dkwJ14_copyOf_2_1 ++ []
def dkwJ14_copyOf_2_0 : List UInt8 := [44, 18, 110, 166, 0, 10, 27, 189, 0, 2, 167, 0, 14, 44, 182, 0, 90, 27, 184, 0, 95, 192, 0, 110]
abbrev dktJ14_copyOf_2_0 : List UInt8 := dkwJ14_copyOf_2_0 ++ dktJ14_copyOf_2_1
theorem dksJ14_copyOf_2_0 : cJ14_copyOf_2.data.toList.drop 0 = dktJ14_copyOf_2_0 := by decide +kernel
theorem dksJ14_copyOf_2_1 : cJ14_copyOf_2.data.toList.drop 24 = dktJ14_copyOf_2_1 := dk_seg dksJ14_copyOf_2_0 24 rfl rfl
theorem dJ14_copyOf_2_0 : decode cJ14_copyOf_2 0 = .ok (.aload_n 2, 1) := dk_44 (dk_at dksJ14_copyOf_2_0 0 rfl rfl)
theorem dJ14_copyOf_2_1 : decode cJ14_copyOf_2 1 = .ok (.ldc 110, 2) := dk_18 110 (dk_at dksJ14_copyOf_2_0 1 rfl rfl)
theorem dJ14_copyOf_2_3 : decode cJ14_copyOf_2 3 = .ok (.if_acmp .ne 10, 3) := dk_166 0 10 (dk_at dksJ14_copyOf_2_0 3 rfl rfl)
theorem dJ14_copyOf_2_6 : decode cJ14_copyOf_2 6 = .ok (.iload_n 1, 1) := dk_27 (dk_at dksJ14_copyOf_2_0 6 rfl rfl)
theorem dJ14_copyOf_2_7 : decode cJ14_copyOf_2 7 = .ok (.anewarray 2, 3) := dk_189 0 2 (dk_at dksJ14_copyOf_2_0 7 rfl rfl)
theorem dJ14_copyOf_2_10 : decode cJ14_copyOf_2 10 = .ok (.goto 14, 3) := dk_167 0 14 (dk_at dksJ14_copyOf_2_0 10 rfl rfl)
theorem dJ14_copyOf_2_13 : decode cJ14_copyOf_2 13 = .ok (.aload_n 2, 1) := dk_44 (dk_at dksJ14_copyOf_2_0 13 rfl rfl)
theorem dJ14_copyOf_2_14 : decode cJ14_copyOf_2 14 = .ok (.invokevirtual 90, 3) := dk_182 0 90 (dk_at dksJ14_copyOf_2_0 14 rfl rfl)
theorem dJ14_copyOf_2_17 : decode cJ14_copyOf_2 17 = .ok (.iload_n 1, 1) := dk_27 (dk_at dksJ14_copyOf_2_0 17 rfl rfl)
theorem dJ14_copyOf_2_18 : decode cJ14_copyOf_2 18 = .ok (.invokestatic 95, 3) := dk_184 0 95 (dk_at dksJ14_copyOf_2_0 18 rfl rfl)
theorem dJ14_copyOf_2_21 : decode cJ14_copyOf_2 21 = .ok (.checkcast 110, 3) := dk_192 0 110 (dk_at dksJ14_copyOf_2_0 21 rfl rfl)
theorem dJ14_copyOf_2_24 : decode cJ14_copyOf_2 24 = .ok (.astore_n 3, 1) := dk_78 (dk_at dksJ14_copyOf_2_1 0 rfl rfl)
theorem dJ14_copyOf_2_25 : decode cJ14_copyOf_2 25 = .ok (.aload_n 0, 1) := dk_42 (dk_at dksJ14_copyOf_2_1 1 rfl rfl)
theorem dJ14_copyOf_2_26 : decode cJ14_copyOf_2 26 = .ok (.iconst 0, 1) := dk_3 (dk_at dksJ14_copyOf_2_1 2 rfl rfl)
theorem dJ14_copyOf_2_27 : decode cJ14_copyOf_2 27 = .ok (.aload_n 3, 1) := dk_45 (dk_at dksJ14_copyOf_2_1 3 rfl rfl)
theorem dJ14_copyOf_2_28 : decode cJ14_copyOf_2 28 = .ok (.iconst 0, 1) := dk_3 (dk_at dksJ14_copyOf_2_1 4 rfl rfl)
theorem dJ14_copyOf_2_29 : decode cJ14_copyOf_2 29 = .ok (.aload_n 0, 1) := dk_42 (dk_at dksJ14_copyOf_2_1 5 rfl rfl)
theorem dJ14_copyOf_2_30 : decode cJ14_copyOf_2 30 = .ok (.arraylength, 1) := dk_190 (dk_at dksJ14_copyOf_2_1 6 rfl rfl)
theorem dJ14_copyOf_2_31 : decode cJ14_copyOf_2 31 = .ok (.iload_n 1, 1) := dk_27 (dk_at dksJ14_copyOf_2_1 7 rfl rfl)
theorem dJ14_copyOf_2_32 : decode cJ14_copyOf_2 32 = .ok (.invokestatic 304, 3) := dk_184 1 48 (dk_at dksJ14_copyOf_2_1 8 rfl rfl)
theorem dJ14_copyOf_2_35 : decode cJ14_copyOf_2 35 = .ok (.invokestatic 150, 3) := dk_184 0 150 (dk_at dksJ14_copyOf_2_1 11 rfl rfl)
theorem dJ14_copyOf_2_38 : decode cJ14_copyOf_2 38 = .ok (.aload_n 3, 1) := dk_45 (dk_at dksJ14_copyOf_2_1 14 rfl rfl)
theorem dJ14_copyOf_2_39 : decode cJ14_copyOf_2 39 = .ok (.areturn, 1) := dk_176 (dk_at dksJ14_copyOf_2_1 15 rfl rfl)
def dkwJ15_bitCount_2 : List UInt8 := [26, 16, 63, 126, 172]
abbrev dktJ15_bitCount_2 : List UInt8 := dkwJ15_bitCount_2 ++ []
def dkwJ15_bitCount_1 : List UInt8 := [26, 26, 7, 124, 96, 19, 1, 11, 126, 59, 26, 26, 16, 8, 124, 96, 59, 26, 26, 16, 16, 124, 96, 59]
abbrev dktJ15_bitCount_1 : List UInt8 := dkwJ15_bitCount_1 ++ dktJ15_bitCount_2
def dkwJ15_bitCount_0 : List UInt8 := [26, 26, 4, 124, 19, 1, 9, 126, 100, 59, 26, 19, 1, 10, 126, 26, 5, 124, 19, 1, 10, 126, 96, 59]
abbrev dktJ15_bitCount_0 : List UInt8 := dkwJ15_bitCount_0 ++ dktJ15_bitCount_1
theorem dksJ15_bitCount_0 : cJ15_bitCount.data.toList.drop 0 = dktJ15_bitCount_0 := by decide +kernel
theorem dksJ15_bitCount_1 : cJ15_bitCount.data.toList.drop 24 = dktJ15_bitCount_1 := dk_seg dksJ15_bitCount_0 24 rfl rfl
theorem dksJ15_bitCount_2 : cJ15_bitCount.data.toList.drop 48 = dktJ15_bitCount_2 := dk_seg dksJ15_bitCount_1 24 rfl rfl
theorem dJ15_bitCount_0 : decode cJ15_bitCount 0 = .ok (.iload_n 0, 1) := dk_26 (dk_at dksJ15_bitCount_0 0 rfl rfl)
theorem dJ15_bitCount_1 : decode cJ15_bitCount 1 = .ok (.iload_n 0, 1) := dk_26 (dk_at dksJ15_bitCount_0 1 rfl rfl)
theorem dJ15_bitCount_2 : decode cJ15_bitCount 2 = .ok (.iconst 1, 1) := dk_4 (dk_at dksJ15_bitCount_0 2 rfl rfl)
theorem dJ15_bitCount_3 : decode cJ15_bitCount 3 = .ok (.iushr, 1) := dk_124 (dk_at dksJ15_bitCount_0 3 rfl rfl)
theorem dJ15_bitCount_4 : decode cJ15_bitCount 4 = .ok (.ldc_w 265, 3) := dk_19 1 9 (dk_at dksJ15_bitCount_0 4 rfl rfl)
theorem dJ15_bitCount_7 : decode cJ15_bitCount 7 = .ok (.iand, 1) := dk_126 (dk_at dksJ15_bitCount_0 7 rfl rfl)
theorem dJ15_bitCount_8 : decode cJ15_bitCount 8 = .ok (.isub, 1) := dk_100 (dk_at dksJ15_bitCount_0 8 rfl rfl)
theorem dJ15_bitCount_9 : decode cJ15_bitCount 9 = .ok (.istore_n 0, 1) := dk_59 (dk_at dksJ15_bitCount_0 9 rfl rfl)
theorem dJ15_bitCount_10 : decode cJ15_bitCount 10 = .ok (.iload_n 0, 1) := dk_26 (dk_at dksJ15_bitCount_0 10 rfl rfl)
theorem dJ15_bitCount_11 : decode cJ15_bitCount 11 = .ok (.ldc_w 266, 3) := dk_19 1 10 (dk_at dksJ15_bitCount_0 11 rfl rfl)
theorem dJ15_bitCount_14 : decode cJ15_bitCount 14 = .ok (.iand, 1) := dk_126 (dk_at dksJ15_bitCount_0 14 rfl rfl)
theorem dJ15_bitCount_15 : decode cJ15_bitCount 15 = .ok (.iload_n 0, 1) := dk_26 (dk_at dksJ15_bitCount_0 15 rfl rfl)
theorem dJ15_bitCount_16 : decode cJ15_bitCount 16 = .ok (.iconst 2, 1) := dk_5 (dk_at dksJ15_bitCount_0 16 rfl rfl)
theorem dJ15_bitCount_17 : decode cJ15_bitCount 17 = .ok (.iushr, 1) := dk_124 (dk_at dksJ15_bitCount_0 17 rfl rfl)
theorem dJ15_bitCount_18 : decode cJ15_bitCount 18 = .ok (.ldc_w 266, 3) := dk_19 1 10 (dk_at dksJ15_bitCount_0 18 rfl rfl)
theorem dJ15_bitCount_21 : decode cJ15_bitCount 21 = .ok (.iand, 1) := dk_126 (dk_at dksJ15_bitCount_0 21 rfl rfl)
theorem dJ15_bitCount_22 : decode cJ15_bitCount 22 = .ok (.iadd, 1) := dk_96 (dk_at dksJ15_bitCount_0 22 rfl rfl)
theorem dJ15_bitCount_23 : decode cJ15_bitCount 23 = .ok (.istore_n 0, 1) := dk_59 (dk_at dksJ15_bitCount_0 23 rfl rfl)
theorem dJ15_bitCount_24 : decode cJ15_bitCount 24 = .ok (.iload_n 0, 1) := dk_26 (dk_at dksJ15_bitCount_1 0 rfl rfl)
theorem dJ15_bitCount_25 : decode cJ15_bitCount 25 = .ok (.iload_n 0, 1) := dk_26 (dk_at dksJ15_bitCount_1 1 rfl rfl)
theorem dJ15_bitCount_26 : decode cJ15_bitCount 26 = .ok (.iconst 4, 1) := dk_7 (dk_at dksJ15_bitCount_1 2 rfl rfl)
theorem dJ15_bitCount_27 : decode cJ15_bitCount 27 = .ok (.iushr, 1) := dk_124 (dk_at dksJ15_bitCount_1 3 rfl rfl)
theorem dJ15_bitCount_28 : decode cJ15_bitCount 28 = .ok (.iadd, 1) := dk_96 (dk_at dksJ15_bitCount_1 4 rfl rfl)
theorem dJ15_bitCount_29 : decode cJ15_bitCount 29 = .ok (.ldc_w 267, 3) := dk_19 1 11 (dk_at dksJ15_bitCount_1 5 rfl rfl)
theorem dJ15_bitCount_32 : decode cJ15_bitCount 32 = .ok (.iand, 1) := dk_126 (dk_at dksJ15_bitCount_1 8 rfl rfl)
theorem dJ15_bitCount_33 : decode cJ15_bitCount 33 = .ok (.istore_n 0, 1) := dk_59 (dk_at dksJ15_bitCount_1 9 rfl rfl)
theorem dJ15_bitCount_34 : decode cJ15_bitCount 34 = .ok (.iload_n 0, 1) := dk_26 (dk_at dksJ15_bitCount_1 10 rfl rfl)
theorem dJ15_bitCount_35 : decode cJ15_bitCount 35 = .ok (.iload_n 0, 1) := dk_26 (dk_at dksJ15_bitCount_1 11 rfl rfl)
theorem dJ15_bitCount_36 : decode cJ15_bitCount 36 = .ok (.bipush 8, 2) := dk_16 8 (dk_at dksJ15_bitCount_1 12 rfl rfl)
theorem dJ15_bitCount_38 : decode cJ15_bitCount 38 = .ok (.iushr, 1) := dk_124 (dk_at dksJ15_bitCount_1 14 rfl rfl)
theorem dJ15_bitCount_39 : decode cJ15_bitCount 39 = .ok (.iadd, 1) := dk_96 (dk_at dksJ15_bitCount_1 15 rfl rfl)
theorem dJ15_bitCount_40 : decode cJ15_bitCount 40 = .ok (.istore_n 0, 1) := dk_59 (dk_at dksJ15_bitCount_1 16 rfl rfl)
theorem dJ15_bitCount_41 : decode cJ15_bitCount 41 = .ok (.iload_n 0, 1) := dk_26 (dk_at dksJ15_bitCount_1 17 rfl rfl)
theorem dJ15_bitCount_42 : decode cJ15_bitCount 42 = .ok (.iload_n 0, 1) := dk_26 (dk_at dksJ15_bitCount_1 18 rfl rfl)
theorem dJ15_bitCount_43 : decode cJ15_bitCount 43 = .ok (.bipush 16, 2) := dk_16 16 (dk_at dksJ15_bitCount_1 19 rfl rfl)
theorem dJ15_bitCount_45 : decode cJ15_bitCount 45 = .ok (.iushr, 1) := dk_124 (dk_at dksJ15_bitCount_1 21 rfl rfl)
theorem dJ15_bitCount_46 : decode cJ15_bitCount 46 = .ok (.iadd, 1) := dk_96 (dk_at dksJ15_bitCount_1 22 rfl rfl)
theorem dJ15_bitCount_47 : decode cJ15_bitCount 47 = .ok (.istore_n 0, 1) := dk_59 (dk_at dksJ15_bitCount_1 23 rfl rfl)
theorem dJ15_bitCount_48 : decode cJ15_bitCount 48 = .ok (.iload_n 0, 1) := dk_26 (dk_at dksJ15_bitCount_2 0 rfl rfl)
theorem dJ15_bitCount_49 : decode cJ15_bitCount 49 = .ok (.bipush 63, 2) := dk_16 63 (dk_at dksJ15_bitCount_2 1 rfl rfl)
theorem dJ15_bitCount_51 : decode cJ15_bitCount 51 = .ok (.iand, 1) := dk_126 (dk_at dksJ15_bitCount_2 3 rfl rfl)
theorem dJ15_bitCount_52 : decode cJ15_bitCount 52 = .ok (.ireturn, 1) := dk_172 (dk_at dksJ15_bitCount_2 4 rfl rfl)
theorem dJ16_init_0 : decode cJ16_init 0 = .ok (.aload_n 0, 1) := by decide +kernel
theorem dJ16_init_1 : decode cJ16_init 1 = .ok (.invokespecial 1, 3) := by decide +kernel
theorem dJ16_init_4 : decode cJ16_init 4 = .ok (.return_, 1) := by decide +kernel
theorem dJ17_init_0 : decode cJ17_init 0 = .ok (.return_, 1) := by decide +kernel
def dkwJ2_init_0 : List UInt8 := [42, 183, 0, 1, 42, 178, 0, 39, 181, 0, 9, 177]
abbrev dktJ2_init_0 : List UInt8 := dkwJ2_init_0 ++ []
theorem dksJ2_init_0 : cJ2_init.data.toList.drop 0 = dktJ2_init_0 := by decide +kernel
theorem dJ2_init_0 : decode cJ2_init 0 = .ok (.aload_n 0, 1) := dk_42 (dk_at dksJ2_init_0 0 rfl rfl)
theorem dJ2_init_1 : decode cJ2_init 1 = .ok (.invokespecial 1, 3) := dk_183 0 1 (dk_at dksJ2_init_0 1 rfl rfl)
theorem dJ2_init_4 : decode cJ2_init 4 = .ok (.aload_n 0, 1) := dk_42 (dk_at dksJ2_init_0 4 rfl rfl)
theorem dJ2_init_5 : decode cJ2_init 5 = .ok (.getstatic 39, 3) := dk_178 0 39 (dk_at dksJ2_init_0 5 rfl rfl)
theorem dJ2_init_8 : decode cJ2_init 8 = .ok (.putfield 9, 3) := dk_181 0 9 (dk_at dksJ2_init_0 8 rfl rfl)
theorem dJ2_init_11 : decode cJ2_init 11 = .ok (.return_, 1) := dk_177 (dk_at dksJ2_init_0 11 rfl rfl)
def dkwJ2_isEmpty_0 : List UInt8 := [42, 180, 0, 48, 154, 0, 7, 4, 167, 0, 4, 3, 172]
abbrev dktJ2_isEmpty_0 : List UInt8 := dkwJ2_isEmpty_0 ++ []
theorem dksJ2_isEmpty_0 : cJ2_isEmpty.data.toList.drop 0 = dktJ2_isEmpty_0 := by decide +kernel
theorem dJ2_isEmpty_0 : decode cJ2_isEmpty 0 = .ok (.aload_n 0, 1) := dk_42 (dk_at dksJ2_isEmpty_0 0 rfl rfl)
theorem dJ2_isEmpty_1 : decode cJ2_isEmpty 1 = .ok (.getfield 48, 3) := dk_180 0 48 (dk_at dksJ2_isEmpty_0 1 rfl rfl)
theorem dJ2_isEmpty_4 : decode cJ2_isEmpty 4 = .ok (.ifCond .ne 7, 3) := dk_154 0 7 (dk_at dksJ2_isEmpty_0 4 rfl rfl)
theorem dJ2_isEmpty_7 : decode cJ2_isEmpty 7 = .ok (.iconst 1, 1) := dk_4 (dk_at dksJ2_isEmpty_0 7 rfl rfl)
theorem dJ2_isEmpty_8 : decode cJ2_isEmpty 8 = .ok (.goto 4, 3) := dk_167 0 4 (dk_at dksJ2_isEmpty_0 8 rfl rfl)
theorem dJ2_isEmpty_11 : decode cJ2_isEmpty 11 = .ok (.iconst 0, 1) := dk_3 (dk_at dksJ2_isEmpty_0 11 rfl rfl)
theorem dJ2_isEmpty_12 : decode cJ2_isEmpty 12 = .ok (.ireturn, 1) := dk_172 (dk_at dksJ2_isEmpty_0 12 rfl rfl)
theorem dJ2_size_0 : decode cJ2_size 0 = .ok (.aload_n 0, 1) := by decide +kernel
theorem dJ2_size_1 : decode cJ2_size 1 = .ok (.getfield 48, 3) := by decide +kernel
theorem dJ2_size_4 : decode cJ2_size 4 = .ok (.ireturn, 1) := by decide +kernel
def dkwJ2_remove_1 : List UInt8 := [45, 176]
abbrev dktJ2_remove_1 : List UInt8 := dkwJ2_remove_1 ++ []
def dkwJ2_remove_0 : List UInt8 := [27, 42, 180, 0, 48, 184, 0, 118, 87, 42, 180, 0, 9, 77, 44, 27, 50, 78, 42, 44, 27, 182, 0, 144]
abbrev dktJ2_remove_0 : List UInt8 := dkwJ2_remove_0 ++ dktJ2_remove_1
theorem dksJ2_remove_0 : cJ2_remove.data.toList.drop 0 = dktJ2_remove_0 := by decide +kernel
theorem dksJ2_remove_1 : cJ2_remove.data.toList.drop 24 = dktJ2_remove_1 := dk_seg dksJ2_remove_0 24 rfl rfl
theorem dJ2_remove_0 : decode cJ2_remove 0 = .ok (.iload_n 1, 1) := dk_27 (dk_at dksJ2_remove_0 0 rfl rfl)
theorem dJ2_remove_1 : decode cJ2_remove 1 = .ok (.aload_n 0, 1) := dk_42 (dk_at dksJ2_remove_0 1 rfl rfl)
theorem dJ2_remove_2 : decode cJ2_remove 2 = .ok (.getfield 48, 3) := dk_180 0 48 (dk_at dksJ2_remove_0 2 rfl rfl)
theorem dJ2_remove_5 : decode cJ2_remove 5 = .ok (.invokestatic 118, 3) := dk_184 0 118 (dk_at dksJ2_remove_0 5 rfl rfl)
theorem dJ2_remove_8 : decode cJ2_remove 8 = .ok (.pop, 1) := dk_87 (dk_at dksJ2_remove_0 8 rfl rfl)
theorem dJ2_remove_9 : decode cJ2_remove 9 = .ok (.aload_n 0, 1) := dk_42 (dk_at dksJ2_remove_0 9 rfl rfl)
theorem dJ2_remove_10 : decode cJ2_remove 10 = .ok (.getfield 9, 3) := dk_180 0 9 (dk_at dksJ2_remove_0 10 rfl rfl)
theorem dJ2_remove_13 : decode cJ2_remove 13 = .ok (.astore_n 2, 1) := dk_77 (dk_at dksJ2_remove_0 13 rfl rfl)
theorem dJ2_remove_14 : decode cJ2_remove 14 = .ok (.aload_n 2, 1) := dk_44 (dk_at dksJ2_remove_0 14 rfl rfl)
theorem dJ2_remove_15 : decode cJ2_remove 15 = .ok (.iload_n 1, 1) := dk_27 (dk_at dksJ2_remove_0 15 rfl rfl)
theorem dJ2_remove_16 : decode cJ2_remove 16 = .ok (.aaload, 1) := dk_50 (dk_at dksJ2_remove_0 16 rfl rfl)
theorem dJ2_remove_17 : decode cJ2_remove 17 = .ok (.astore_n 3, 1) := dk_78 (dk_at dksJ2_remove_0 17 rfl rfl)
theorem dJ2_remove_18 : decode cJ2_remove 18 = .ok (.aload_n 0, 1) := dk_42 (dk_at dksJ2_remove_0 18 rfl rfl)
theorem dJ2_remove_19 : decode cJ2_remove 19 = .ok (.aload_n 2, 1) := dk_44 (dk_at dksJ2_remove_0 19 rfl rfl)
theorem dJ2_remove_20 : decode cJ2_remove 20 = .ok (.iload_n 1, 1) := dk_27 (dk_at dksJ2_remove_0 20 rfl rfl)
theorem dJ2_remove_21 : decode cJ2_remove 21 = .ok (.invokevirtual 144, 3) := dk_182 0 144 (dk_at dksJ2_remove_0 21 rfl rfl)
theorem dJ2_remove_24 : decode cJ2_remove 24 = .ok (.aload_n 3, 1) := dk_45 (dk_at dksJ2_remove_1 0 rfl rfl)
theorem dJ2_remove_25 : decode cJ2_remove 25 = .ok (.areturn, 1) := dk_176 (dk_at dksJ2_remove_1 1 rfl rfl)
def dkwJ2_fastRemove_1 : List UInt8 := [4, 96, 43, 28, 29, 28, 100, 184, 0, 112, 43, 42, 29, 90, 181, 0, 48, 1, 83, 177]
abbrev dktJ2_fastRemove_1 : List UInt8 := dkwJ2_fastRemove_1 ++ []
def dkwJ2_fastRemove_0 : List UInt8 := [42, 89, 180, 0, 63, 4, 96, 181, 0, 63, 42, 180, 0, 48, 4, 100, 89, 62, 28, 164, 0, 15, 43, 28]
abbrev dktJ2_fastRemove_0 : List UInt8 := dkwJ2_fastRemove_0 ++ dktJ2_fastRemove_1
theorem dksJ2_fastRemove_0 : cJ2_fastRemove.data.toList.drop 0 = dktJ2_fastRemove_0 := by decide +kernel
theorem dksJ2_fastRemove_1 : cJ2_fastRemove.data.toList.drop 24 = dktJ2_fastRemove_1 := dk_seg dksJ2_fastRemove_0 24 rfl rfl
theorem dJ2_fastRemove_0 : decode cJ2_fastRemove 0 = .ok (.aload_n 0, 1) := dk_42 (dk_at dksJ2_fastRemove_0 0 rfl rfl)
theorem dJ2_fastRemove_1 : decode cJ2_fastRemove 1 = .ok (.dup, 1) := dk_89 (dk_at dksJ2_fastRemove_0 1 rfl rfl)
theorem dJ2_fastRemove_2 : decode cJ2_fastRemove 2 = .ok (.getfield 63, 3) := dk_180 0 63 (dk_at dksJ2_fastRemove_0 2 rfl rfl)
theorem dJ2_fastRemove_5 : decode cJ2_fastRemove 5 = .ok (.iconst 1, 1) := dk_4 (dk_at dksJ2_fastRemove_0 5 rfl rfl)
theorem dJ2_fastRemove_6 : decode cJ2_fastRemove 6 = .ok (.iadd, 1) := dk_96 (dk_at dksJ2_fastRemove_0 6 rfl rfl)
theorem dJ2_fastRemove_7 : decode cJ2_fastRemove 7 = .ok (.putfield 63, 3) := dk_181 0 63 (dk_at dksJ2_fastRemove_0 7 rfl rfl)
theorem dJ2_fastRemove_10 : decode cJ2_fastRemove 10 = .ok (.aload_n 0, 1) := dk_42 (dk_at dksJ2_fastRemove_0 10 rfl rfl)
theorem dJ2_fastRemove_11 : decode cJ2_fastRemove 11 = .ok (.getfield 48, 3) := dk_180 0 48 (dk_at dksJ2_fastRemove_0 11 rfl rfl)
theorem dJ2_fastRemove_14 : decode cJ2_fastRemove 14 = .ok (.iconst 1, 1) := dk_4 (dk_at dksJ2_fastRemove_0 14 rfl rfl)
theorem dJ2_fastRemove_15 : decode cJ2_fastRemove 15 = .ok (.isub, 1) := dk_100 (dk_at dksJ2_fastRemove_0 15 rfl rfl)
theorem dJ2_fastRemove_16 : decode cJ2_fastRemove 16 = .ok (.dup, 1) := dk_89 (dk_at dksJ2_fastRemove_0 16 rfl rfl)
theorem dJ2_fastRemove_17 : decode cJ2_fastRemove 17 = .ok (.istore_n 3, 1) := dk_62 (dk_at dksJ2_fastRemove_0 17 rfl rfl)
theorem dJ2_fastRemove_18 : decode cJ2_fastRemove 18 = .ok (.iload_n 2, 1) := dk_28 (dk_at dksJ2_fastRemove_0 18 rfl rfl)
theorem dJ2_fastRemove_19 : decode cJ2_fastRemove 19 = .ok (.if_icmp .le 15, 3) := dk_164 0 15 (dk_at dksJ2_fastRemove_0 19 rfl rfl)
theorem dJ2_fastRemove_22 : decode cJ2_fastRemove 22 = .ok (.aload_n 1, 1) := dk_43 (dk_at dksJ2_fastRemove_0 22 rfl rfl)
theorem dJ2_fastRemove_23 : decode cJ2_fastRemove 23 = .ok (.iload_n 2, 1) := dk_28 (dk_at dksJ2_fastRemove_0 23 rfl rfl)
theorem dJ2_fastRemove_24 : decode cJ2_fastRemove 24 = .ok (.iconst 1, 1) := dk_4 (dk_at dksJ2_fastRemove_1 0 rfl rfl)
theorem dJ2_fastRemove_25 : decode cJ2_fastRemove 25 = .ok (.iadd, 1) := dk_96 (dk_at dksJ2_fastRemove_1 1 rfl rfl)
theorem dJ2_fastRemove_26 : decode cJ2_fastRemove 26 = .ok (.aload_n 1, 1) := dk_43 (dk_at dksJ2_fastRemove_1 2 rfl rfl)
theorem dJ2_fastRemove_27 : decode cJ2_fastRemove 27 = .ok (.iload_n 2, 1) := dk_28 (dk_at dksJ2_fastRemove_1 3 rfl rfl)
theorem dJ2_fastRemove_28 : decode cJ2_fastRemove 28 = .ok (.iload_n 3, 1) := dk_29 (dk_at dksJ2_fastRemove_1 4 rfl rfl)
theorem dJ2_fastRemove_29 : decode cJ2_fastRemove 29 = .ok (.iload_n 2, 1) := dk_28 (dk_at dksJ2_fastRemove_1 5 rfl rfl)
theorem dJ2_fastRemove_30 : decode cJ2_fastRemove 30 = .ok (.isub, 1) := dk_100 (dk_at dksJ2_fastRemove_1 6 rfl rfl)
theorem dJ2_fastRemove_31 : decode cJ2_fastRemove 31 = .ok (.invokestatic 112, 3) := dk_184 0 112 (dk_at dksJ2_fastRemove_1 7 rfl rfl)
theorem dJ2_fastRemove_34 : decode cJ2_fastRemove 34 = .ok (.aload_n 1, 1) := dk_43 (dk_at dksJ2_fastRemove_1 10 rfl rfl)
theorem dJ2_fastRemove_35 : decode cJ2_fastRemove 35 = .ok (.aload_n 0, 1) := dk_42 (dk_at dksJ2_fastRemove_1 11 rfl rfl)
theorem dJ2_fastRemove_36 : decode cJ2_fastRemove 36 = .ok (.iload_n 3, 1) := dk_29 (dk_at dksJ2_fastRemove_1 12 rfl rfl)
theorem dJ2_fastRemove_37 : decode cJ2_fastRemove 37 = .ok (.dup_x1, 1) := dk_90 (dk_at dksJ2_fastRemove_1 13 rfl rfl)
theorem dJ2_fastRemove_38 : decode cJ2_fastRemove 38 = .ok (.putfield 48, 3) := dk_181 0 48 (dk_at dksJ2_fastRemove_1 14 rfl rfl)
theorem dJ2_fastRemove_41 : decode cJ2_fastRemove 41 = .ok (.aconst_null, 1) := dk_1 (dk_at dksJ2_fastRemove_1 17 rfl rfl)
theorem dJ2_fastRemove_42 : decode cJ2_fastRemove 42 = .ok (.aastore, 1) := dk_83 (dk_at dksJ2_fastRemove_1 18 rfl rfl)
theorem dJ2_fastRemove_43 : decode cJ2_fastRemove 43 = .ok (.return_, 1) := dk_177 (dk_at dksJ2_fastRemove_1 19 rfl rfl)
def dkwJ2_get_0 : List UInt8 := [27, 42, 180, 0, 48, 184, 0, 118, 87, 42, 27, 182, 0, 123, 176]
abbrev dktJ2_get_0 : List UInt8 := dkwJ2_get_0 ++ []
theorem dksJ2_get_0 : cJ2_get.data.toList.drop 0 = dktJ2_get_0 := by decide +kernel
theorem dJ2_get_0 : decode cJ2_get 0 = .ok (.iload_n 1, 1) := dk_27 (dk_at dksJ2_get_0 0 rfl rfl)
theorem dJ2_get_1 : decode cJ2_get 1 = .ok (.aload_n 0, 1) := dk_42 (dk_at dksJ2_get_0 1 rfl rfl)
theorem dJ2_get_2 : decode cJ2_get 2 = .ok (.getfield 48, 3) := dk_180 0 48 (dk_at dksJ2_get_0 2 rfl rfl)
theorem dJ2_get_5 : decode cJ2_get 5 = .ok (.invokestatic 118, 3) := dk_184 0 118 (dk_at dksJ2_get_0 5 rfl rfl)
theorem dJ2_get_8 : decode cJ2_get 8 = .ok (.pop, 1) := dk_87 (dk_at dksJ2_get_0 8 rfl rfl)
theorem dJ2_get_9 : decode cJ2_get 9 = .ok (.aload_n 0, 1) := dk_42 (dk_at dksJ2_get_0 9 rfl rfl)
theorem dJ2_get_10 : decode cJ2_get 10 = .ok (.iload_n 1, 1) := dk_27 (dk_at dksJ2_get_0 10 rfl rfl)
theorem dJ2_get_11 : decode cJ2_get 11 = .ok (.invokevirtual 123, 3) := dk_182 0 123 (dk_at dksJ2_get_0 11 rfl rfl)
theorem dJ2_get_14 : decode cJ2_get 14 = .ok (.areturn, 1) := dk_176 (dk_at dksJ2_get_0 14 rfl rfl)
def dkwJ2_elementData_0 : List UInt8 := [42, 180, 0, 9, 27, 50, 176]
abbrev dktJ2_elementData_0 : List UInt8 := dkwJ2_elementData_0 ++ []
theorem dksJ2_elementData_0 : cJ2_elementData.data.toList.drop 0 = dktJ2_elementData_0 := by decide +kernel
theorem dJ2_elementData_0 : decode cJ2_elementData 0 = .ok (.aload_n 0, 1) := dk_42 (dk_at dksJ2_elementData_0 0 rfl rfl)
theorem dJ2_elementData_1 : decode cJ2_elementData 1 = .ok (.getfield 9, 3) := dk_180 0 9 (dk_at dksJ2_elementData_0 1 rfl rfl)
theorem dJ2_elementData_4 : decode cJ2_elementData 4 = .ok (.iload_n 1, 1) := dk_27 (dk_at dksJ2_elementData_0 4 rfl rfl)
theorem dJ2_elementData_5 : decode cJ2_elementData 5 = .ok (.aaload, 1) := dk_50 (dk_at dksJ2_elementData_0 5 rfl rfl)
theorem dJ2_elementData_6 : decode cJ2_elementData 6 = .ok (.areturn, 1) := dk_176 (dk_at dksJ2_elementData_0 6 rfl rfl)
def dkwJ2_init_2_2 : List UInt8 := [18, 56, 184, 0, 57, 181, 0, 9, 167, 0, 10, 42, 178, 0, 15, 181, 0, 9, 177]
abbrev dktJ2_init_2_2 : List UInt8 := dkwJ2_init_2_2 ++ []
def dkwJ2_init_2_1 : List UInt8 := [185, 0, 52, 1, 0, 18, 10, 166, 0, 11, 42, 44, 181, 0, 9, 167, 0, 27, 42, 44, 42, 180, 0, 48]
abbrev dktJ2_init_2_1 : List UInt8 := dkwJ2_init_2_1 ++ dktJ2_init_2_2
def dkwJ2_init_2_0 : List UInt8 := [42, 183, 0, 1, 43, 185, 0, 42, 1, 0, 77, 42, 44, 190, 90, 181, 0, 48, 153, 0, 39, 43]
abbrev dktJ2_init_2_0 : List UInt8 := dkwJ2_init_2_0 ++ dktJ2_init_2_1
theorem dksJ2_init_2_0 : cJ2_init_2.data.toList.drop 0 = dktJ2_init_2_0 := by decide +kernel
theorem dksJ2_init_2_1 : cJ2_init_2.data.toList.drop 22 = dktJ2_init_2_1 := dk_seg dksJ2_init_2_0 22 rfl rfl
theorem dksJ2_init_2_2 : cJ2_init_2.data.toList.drop 46 = dktJ2_init_2_2 := dk_seg dksJ2_init_2_1 24 rfl rfl
theorem dJ2_init_2_0 : decode cJ2_init_2 0 = .ok (.aload_n 0, 1) := dk_42 (dk_at dksJ2_init_2_0 0 rfl rfl)
theorem dJ2_init_2_1 : decode cJ2_init_2 1 = .ok (.invokespecial 1, 3) := dk_183 0 1 (dk_at dksJ2_init_2_0 1 rfl rfl)
theorem dJ2_init_2_4 : decode cJ2_init_2 4 = .ok (.aload_n 1, 1) := dk_43 (dk_at dksJ2_init_2_0 4 rfl rfl)
theorem dJ2_init_2_5 : decode cJ2_init_2 5 = .ok (.invokeinterface 42 1, 5) := by decide +kernel
theorem dJ2_init_2_10 : decode cJ2_init_2 10 = .ok (.astore_n 2, 1) := dk_77 (dk_at dksJ2_init_2_0 10 rfl rfl)
theorem dJ2_init_2_11 : decode cJ2_init_2 11 = .ok (.aload_n 0, 1) := dk_42 (dk_at dksJ2_init_2_0 11 rfl rfl)
theorem dJ2_init_2_12 : decode cJ2_init_2 12 = .ok (.aload_n 2, 1) := dk_44 (dk_at dksJ2_init_2_0 12 rfl rfl)
theorem dJ2_init_2_13 : decode cJ2_init_2 13 = .ok (.arraylength, 1) := dk_190 (dk_at dksJ2_init_2_0 13 rfl rfl)
theorem dJ2_init_2_14 : decode cJ2_init_2 14 = .ok (.dup_x1, 1) := dk_90 (dk_at dksJ2_init_2_0 14 rfl rfl)
theorem dJ2_init_2_15 : decode cJ2_init_2 15 = .ok (.putfield 48, 3) := dk_181 0 48 (dk_at dksJ2_init_2_0 15 rfl rfl)
theorem dJ2_init_2_18 : decode cJ2_init_2 18 = .ok (.ifCond .eq 39, 3) := dk_153 0 39 (dk_at dksJ2_init_2_0 18 rfl rfl)
theorem dJ2_init_2_21 : decode cJ2_init_2 21 = .ok (.aload_n 1, 1) := dk_43 (dk_at dksJ2_init_2_0 21 rfl rfl)
theorem dJ2_init_2_22 : decode cJ2_init_2 22 = .ok (.invokeinterface 52 1, 5) := by decide +kernel
theorem dJ2_init_2_27 : decode cJ2_init_2 27 = .ok (.ldc 10, 2) := dk_18 10 (dk_at dksJ2_init_2_1 5 rfl rfl)
theorem dJ2_init_2_29 : decode cJ2_init_2 29 = .ok (.if_acmp .ne 11, 3) := dk_166 0 11 (dk_at dksJ2_init_2_1 7 rfl rfl)
theorem dJ2_init_2_32 : decode cJ2_init_2 32 = .ok (.aload_n 0, 1) := dk_42 (dk_at dksJ2_init_2_1 10 rfl rfl)
theorem dJ2_init_2_33 : decode cJ2_init_2 33 = .ok (.aload_n 2, 1) := dk_44 (dk_at dksJ2_init_2_1 11 rfl rfl)
theorem dJ2_init_2_34 : decode cJ2_init_2 34 = .ok (.putfield 9, 3) := dk_181 0 9 (dk_at dksJ2_init_2_1 12 rfl rfl)
theorem dJ2_init_2_37 : decode cJ2_init_2 37 = .ok (.goto 27, 3) := dk_167 0 27 (dk_at dksJ2_init_2_1 15 rfl rfl)
theorem dJ2_init_2_40 : decode cJ2_init_2 40 = .ok (.aload_n 0, 1) := dk_42 (dk_at dksJ2_init_2_1 18 rfl rfl)
theorem dJ2_init_2_41 : decode cJ2_init_2 41 = .ok (.aload_n 2, 1) := dk_44 (dk_at dksJ2_init_2_1 19 rfl rfl)
theorem dJ2_init_2_42 : decode cJ2_init_2 42 = .ok (.aload_n 0, 1) := dk_42 (dk_at dksJ2_init_2_1 20 rfl rfl)
theorem dJ2_init_2_43 : decode cJ2_init_2 43 = .ok (.getfield 48, 3) := dk_180 0 48 (dk_at dksJ2_init_2_1 21 rfl rfl)
theorem dJ2_init_2_46 : decode cJ2_init_2 46 = .ok (.ldc 56, 2) := dk_18 56 (dk_at dksJ2_init_2_2 0 rfl rfl)
theorem dJ2_init_2_48 : decode cJ2_init_2 48 = .ok (.invokestatic 57, 3) := dk_184 0 57 (dk_at dksJ2_init_2_2 2 rfl rfl)
theorem dJ2_init_2_51 : decode cJ2_init_2 51 = .ok (.putfield 9, 3) := dk_181 0 9 (dk_at dksJ2_init_2_2 5 rfl rfl)
theorem dJ2_init_2_54 : decode cJ2_init_2 54 = .ok (.goto 10, 3) := dk_167 0 10 (dk_at dksJ2_init_2_2 8 rfl rfl)
theorem dJ2_init_2_57 : decode cJ2_init_2 57 = .ok (.aload_n 0, 1) := dk_42 (dk_at dksJ2_init_2_2 11 rfl rfl)
theorem dJ2_init_2_58 : decode cJ2_init_2 58 = .ok (.getstatic 15, 3) := dk_178 0 15 (dk_at dksJ2_init_2_2 12 rfl rfl)
theorem dJ2_init_2_61 : decode cJ2_init_2 61 = .ok (.putfield 9, 3) := dk_181 0 9 (dk_at dksJ2_init_2_2 15 rfl rfl)
theorem dJ2_init_2_64 : decode cJ2_init_2 64 = .ok (.return_, 1) := dk_177 (dk_at dksJ2_init_2_2 18 rfl rfl)
def dkwJ2_toArray_0 : List UInt8 := [42, 180, 0, 9, 42, 180, 0, 48, 184, 0, 66, 176]
abbrev dktJ2_toArray_0 : List UInt8 := dkwJ2_toArray_0 ++ []
theorem dksJ2_toArray_0 : cJ2_toArray.data.toList.drop 0 = dktJ2_toArray_0 := by decide +kernel
theorem dJ2_toArray_0 : decode cJ2_toArray 0 = .ok (.aload_n 0, 1) := dk_42 (dk_at dksJ2_toArray_0 0 rfl rfl)
theorem dJ2_toArray_1 : decode cJ2_toArray 1 = .ok (.getfield 9, 3) := dk_180 0 9 (dk_at dksJ2_toArray_0 1 rfl rfl)
theorem dJ2_toArray_4 : decode cJ2_toArray 4 = .ok (.aload_n 0, 1) := dk_42 (dk_at dksJ2_toArray_0 4 rfl rfl)
theorem dJ2_toArray_5 : decode cJ2_toArray 5 = .ok (.getfield 48, 3) := dk_180 0 48 (dk_at dksJ2_toArray_0 5 rfl rfl)
theorem dJ2_toArray_8 : decode cJ2_toArray 8 = .ok (.invokestatic 66, 3) := dk_184 0 66 (dk_at dksJ2_toArray_0 8 rfl rfl)
theorem dJ2_toArray_11 : decode cJ2_toArray 11 = .ok (.areturn, 1) := dk_176 (dk_at dksJ2_toArray_0 11 rfl rfl)
def dkwJ2_add_1 : List UInt8 := [172]
abbrev dktJ2_add_1 : List UInt8 := dkwJ2_add_1 ++ []
def dkwJ2_add_0 : List UInt8 := [42, 89, 180, 0, 63, 4, 96, 181, 0, 63, 42, 43, 42, 180, 0, 9, 42, 180, 0, 48, 182, 0, 131, 4]
abbrev dktJ2_add_0 : List UInt8 := dkwJ2_add_0 ++ dktJ2_add_1
theorem dksJ2_add_0 : cJ2_add.data.toList.drop 0 = dktJ2_add_0 := by decide +kernel
theorem dksJ2_add_1 : cJ2_add.data.toList.drop 24 = dktJ2_add_1 := dk_seg dksJ2_add_0 24 rfl rfl
theorem dJ2_add_0 : decode cJ2_add 0 = .ok (.aload_n 0, 1) := dk_42 (dk_at dksJ2_add_0 0 rfl rfl)
theorem dJ2_add_1 : decode cJ2_add 1 = .ok (.dup, 1) := dk_89 (dk_at dksJ2_add_0 1 rfl rfl)
theorem dJ2_add_2 : decode cJ2_add 2 = .ok (.getfield 63, 3) := dk_180 0 63 (dk_at dksJ2_add_0 2 rfl rfl)
theorem dJ2_add_5 : decode cJ2_add 5 = .ok (.iconst 1, 1) := dk_4 (dk_at dksJ2_add_0 5 rfl rfl)
theorem dJ2_add_6 : decode cJ2_add 6 = .ok (.iadd, 1) := dk_96 (dk_at dksJ2_add_0 6 rfl rfl)
theorem dJ2_add_7 : decode cJ2_add 7 = .ok (.putfield 63, 3) := dk_181 0 63 (dk_at dksJ2_add_0 7 rfl rfl)
theorem dJ2_add_10 : decode cJ2_add 10 = .ok (.aload_n 0, 1) := dk_42 (dk_at dksJ2_add_0 10 rfl rfl)
theorem dJ2_add_11 : decode cJ2_add 11 = .ok (.aload_n 1, 1) := dk_43 (dk_at dksJ2_add_0 11 rfl rfl)
theorem dJ2_add_12 : decode cJ2_add 12 = .ok (.aload_n 0, 1) := dk_42 (dk_at dksJ2_add_0 12 rfl rfl)
theorem dJ2_add_13 : decode cJ2_add 13 = .ok (.getfield 9, 3) := dk_180 0 9 (dk_at dksJ2_add_0 13 rfl rfl)
theorem dJ2_add_16 : decode cJ2_add 16 = .ok (.aload_n 0, 1) := dk_42 (dk_at dksJ2_add_0 16 rfl rfl)
theorem dJ2_add_17 : decode cJ2_add 17 = .ok (.getfield 48, 3) := dk_180 0 48 (dk_at dksJ2_add_0 17 rfl rfl)
theorem dJ2_add_20 : decode cJ2_add 20 = .ok (.invokevirtual 131, 3) := dk_182 0 131 (dk_at dksJ2_add_0 20 rfl rfl)
theorem dJ2_add_23 : decode cJ2_add 23 = .ok (.iconst 1, 1) := dk_4 (dk_at dksJ2_add_0 23 rfl rfl)
theorem dJ2_add_24 : decode cJ2_add 24 = .ok (.ireturn, 1) := dk_172 (dk_at dksJ2_add_1 0 rfl rfl)
def dkwJ2_add_2_0 : List UInt8 := [29, 44, 190, 160, 0, 8, 42, 182, 0, 129, 77, 44, 29, 43, 83, 42, 29, 4, 96, 181, 0, 48, 177]
abbrev dktJ2_add_2_0 : List UInt8 := dkwJ2_add_2_0 ++ []
theorem dksJ2_add_2_0 : cJ2_add_2.data.toList.drop 0 = dktJ2_add_2_0 := by decide +kernel
theorem dJ2_add_2_0 : decode cJ2_add_2 0 = .ok (.iload_n 3, 1) := dk_29 (dk_at dksJ2_add_2_0 0 rfl rfl)
theorem dJ2_add_2_1 : decode cJ2_add_2 1 = .ok (.aload_n 2, 1) := dk_44 (dk_at dksJ2_add_2_0 1 rfl rfl)
theorem dJ2_add_2_2 : decode cJ2_add_2 2 = .ok (.arraylength, 1) := dk_190 (dk_at dksJ2_add_2_0 2 rfl rfl)
theorem dJ2_add_2_3 : decode cJ2_add_2 3 = .ok (.if_icmp .ne 8, 3) := dk_160 0 8 (dk_at dksJ2_add_2_0 3 rfl rfl)
theorem dJ2_add_2_6 : decode cJ2_add_2 6 = .ok (.aload_n 0, 1) := dk_42 (dk_at dksJ2_add_2_0 6 rfl rfl)
theorem dJ2_add_2_7 : decode cJ2_add_2 7 = .ok (.invokevirtual 129, 3) := dk_182 0 129 (dk_at dksJ2_add_2_0 7 rfl rfl)
theorem dJ2_add_2_10 : decode cJ2_add_2 10 = .ok (.astore_n 2, 1) := dk_77 (dk_at dksJ2_add_2_0 10 rfl rfl)
theorem dJ2_add_2_11 : decode cJ2_add_2 11 = .ok (.aload_n 2, 1) := dk_44 (dk_at dksJ2_add_2_0 11 rfl rfl)
theorem dJ2_add_2_12 : decode cJ2_add_2 12 = .ok (.iload_n 3, 1) := dk_29 (dk_at dksJ2_add_2_0 12 rfl rfl)
theorem dJ2_add_2_13 : decode cJ2_add_2 13 = .ok (.aload_n 1, 1) := dk_43 (dk_at dksJ2_add_2_0 13 rfl rfl)
theorem dJ2_add_2_14 : decode cJ2_add_2 14 = .ok (.aastore, 1) := dk_83 (dk_at dksJ2_add_2_0 14 rfl rfl)
theorem dJ2_add_2_15 : decode cJ2_add_2 15 = .ok (.aload_n 0, 1) := dk_42 (dk_at dksJ2_add_2_0 15 rfl rfl)
theorem dJ2_add_2_16 : decode cJ2_add_2 16 = .ok (.iload_n 3, 1) := dk_29 (dk_at dksJ2_add_2_0 16 rfl rfl)
theorem dJ2_add_2_17 : decode cJ2_add_2 17 = .ok (.iconst 1, 1) := dk_4 (dk_at dksJ2_add_2_0 17 rfl rfl)
theorem dJ2_add_2_18 : decode cJ2_add_2 18 = .ok (.iadd, 1) := dk_96 (dk_at dksJ2_add_2_0 18 rfl rfl)
theorem dJ2_add_2_19 : decode cJ2_add_2 19 = .ok (.putfield 48, 3) := dk_181 0 48 (dk_at dksJ2_add_2_0 19 rfl rfl)
theorem dJ2_add_2_22 : decode cJ2_add_2 22 = .ok (.return_, 1) := dk_177 (dk_at dksJ2_add_2_0 22 rfl rfl)
def dkwJ2_grow_0 : List UInt8 := [42, 42, 180, 0, 48, 4, 96, 182, 0, 69, 176]
abbrev dktJ2_grow_0 : List UInt8 := dkwJ2_grow_0 ++ []
theorem dksJ2_grow_0 : cJ2_grow.data.toList.drop 0 = dktJ2_grow_0 := by decide +kernel
theorem dJ2_grow_0 : decode cJ2_grow 0 = .ok (.aload_n 0, 1) := dk_42 (dk_at dksJ2_grow_0 0 rfl rfl)
theorem dJ2_grow_1 : decode cJ2_grow 1 = .ok (.aload_n 0, 1) := dk_42 (dk_at dksJ2_grow_0 1 rfl rfl)
theorem dJ2_grow_2 : decode cJ2_grow 2 = .ok (.getfield 48, 3) := dk_180 0 48 (dk_at dksJ2_grow_0 2 rfl rfl)
theorem dJ2_grow_5 : decode cJ2_grow 5 = .ok (.iconst 1, 1) := dk_4 (dk_at dksJ2_grow_0 5 rfl rfl)
theorem dJ2_grow_6 : decode cJ2_grow 6 = .ok (.iadd, 1) := dk_96 (dk_at dksJ2_grow_0 6 rfl rfl)
theorem dJ2_grow_7 : decode cJ2_grow 7 = .ok (.invokevirtual 69, 3) := dk_182 0 69 (dk_at dksJ2_grow_0 7 rfl rfl)
theorem dJ2_grow_10 : decode cJ2_grow 10 = .ok (.areturn, 1) := dk_176 (dk_at dksJ2_grow_0 10 rfl rfl)
def dkwJ2_grow_2_2 : List UInt8 := [27, 184, 0, 79, 189, 0, 7, 90, 181, 0, 9, 176]
abbrev dktJ2_grow_2_2 : List UInt8 := dkwJ2_grow_2_2 ++ []
def dkwJ2_grow_2_1 : List UInt8 := [28, 4, 122, 184, 0, 73, 62, 42, 42, 180, 0, 9, 29, 184, 0, 66, 90, 181, 0, 9, 176, 42, 16, 10]
abbrev dktJ2_grow_2_1 : List UInt8 := dkwJ2_grow_2_1 ++ dktJ2_grow_2_2
def dkwJ2_grow_2_0 : List UInt8 := [42, 180, 0, 9, 190, 61, 28, 157, 0, 13, 42, 180, 0, 9, 178, 0, 39, 165, 0, 28, 28, 27, 28, 100]
abbrev dktJ2_grow_2_0 : List UInt8 := dkwJ2_grow_2_0 ++ dktJ2_grow_2_1
theorem dksJ2_grow_2_0 : cJ2_grow_2.data.toList.drop 0 = dktJ2_grow_2_0 := by decide +kernel
theorem dksJ2_grow_2_1 : cJ2_grow_2.data.toList.drop 24 = dktJ2_grow_2_1 := dk_seg dksJ2_grow_2_0 24 rfl rfl
theorem dksJ2_grow_2_2 : cJ2_grow_2.data.toList.drop 48 = dktJ2_grow_2_2 := dk_seg dksJ2_grow_2_1 24 rfl rfl
theorem dJ2_grow_2_0 : decode cJ2_grow_2 0 = .ok (.aload_n 0, 1) := dk_42 (dk_at dksJ2_grow_2_0 0 rfl rfl)
theorem dJ2_grow_2_1 : decode cJ2_grow_2 1 = .ok (.getfield 9, 3) := dk_180 0 9 (dk_at dksJ2_grow_2_0 1 rfl rfl)
theorem dJ2_grow_2_4 : decode cJ2_grow_2 4 = .ok (.arraylength, 1) := dk_190 (dk_at dksJ2_grow_2_0 4 rfl rfl)
theorem dJ2_grow_2_5 : decode cJ2_grow_2 5 = .ok (.istore_n 2, 1) := dk_61 (dk_at dksJ2_grow_2_0 5 rfl rfl)
theorem dJ2_grow_2_6 : decode cJ2_grow_2 6 = .ok (.iload_n 2, 1) := dk_28 (dk_at dksJ2_grow_2_0 6 rfl rfl)
theorem dJ2_grow_2_7 : decode cJ2_grow_2 7 = .ok (.ifCond .gt 13, 3) := dk_157 0 13 (dk_at dksJ2_grow_2_0 7 rfl rfl)
theorem dJ2_grow_2_10 : decode cJ2_grow_2 10 = .ok (.aload_n 0, 1) := dk_42 (dk_at dksJ2_grow_2_0 10 rfl rfl)
theorem dJ2_grow_2_11 : decode cJ2_grow_2 11 = .ok (.getfield 9, 3) := dk_180 0 9 (dk_at dksJ2_grow_2_0 11 rfl rfl)
theorem dJ2_grow_2_14 : decode cJ2_grow_2 14 = .ok (.getstatic 39, 3) := dk_178 0 39 (dk_at dksJ2_grow_2_0 14 rfl rfl)
theorem dJ2_grow_2_17 : decode cJ2_grow_2 17 = .ok (.if_acmp .eq 28, 3) := dk_165 0 28 (dk_at dksJ2_grow_2_0 17 rfl rfl)
theorem dJ2_grow_2_20 : decode cJ2_grow_2 20 = .ok (.iload_n 2, 1) := dk_28 (dk_at dksJ2_grow_2_0 20 rfl rfl)
theorem dJ2_grow_2_21 : decode cJ2_grow_2 21 = .ok (.iload_n 1, 1) := dk_27 (dk_at dksJ2_grow_2_0 21 rfl rfl)
theorem dJ2_grow_2_22 : decode cJ2_grow_2 22 = .ok (.iload_n 2, 1) := dk_28 (dk_at dksJ2_grow_2_0 22 rfl rfl)
theorem dJ2_grow_2_23 : decode cJ2_grow_2 23 = .ok (.isub, 1) := dk_100 (dk_at dksJ2_grow_2_0 23 rfl rfl)
theorem dJ2_grow_2_24 : decode cJ2_grow_2 24 = .ok (.iload_n 2, 1) := dk_28 (dk_at dksJ2_grow_2_1 0 rfl rfl)
theorem dJ2_grow_2_25 : decode cJ2_grow_2 25 = .ok (.iconst 1, 1) := dk_4 (dk_at dksJ2_grow_2_1 1 rfl rfl)
theorem dJ2_grow_2_26 : decode cJ2_grow_2 26 = .ok (.ishr, 1) := dk_122 (dk_at dksJ2_grow_2_1 2 rfl rfl)
theorem dJ2_grow_2_27 : decode cJ2_grow_2 27 = .ok (.invokestatic 73, 3) := dk_184 0 73 (dk_at dksJ2_grow_2_1 3 rfl rfl)
theorem dJ2_grow_2_30 : decode cJ2_grow_2 30 = .ok (.istore_n 3, 1) := dk_62 (dk_at dksJ2_grow_2_1 6 rfl rfl)
theorem dJ2_grow_2_31 : decode cJ2_grow_2 31 = .ok (.aload_n 0, 1) := dk_42 (dk_at dksJ2_grow_2_1 7 rfl rfl)
theorem dJ2_grow_2_32 : decode cJ2_grow_2 32 = .ok (.aload_n 0, 1) := dk_42 (dk_at dksJ2_grow_2_1 8 rfl rfl)
theorem dJ2_grow_2_33 : decode cJ2_grow_2 33 = .ok (.getfield 9, 3) := dk_180 0 9 (dk_at dksJ2_grow_2_1 9 rfl rfl)
theorem dJ2_grow_2_36 : decode cJ2_grow_2 36 = .ok (.iload_n 3, 1) := dk_29 (dk_at dksJ2_grow_2_1 12 rfl rfl)
theorem dJ2_grow_2_37 : decode cJ2_grow_2 37 = .ok (.invokestatic 66, 3) := dk_184 0 66 (dk_at dksJ2_grow_2_1 13 rfl rfl)
theorem dJ2_grow_2_40 : decode cJ2_grow_2 40 = .ok (.dup_x1, 1) := dk_90 (dk_at dksJ2_grow_2_1 16 rfl rfl)
theorem dJ2_grow_2_41 : decode cJ2_grow_2 41 = .ok (.putfield 9, 3) := dk_181 0 9 (dk_at dksJ2_grow_2_1 17 rfl rfl)
theorem dJ2_grow_2_44 : decode cJ2_grow_2 44 = .ok (.areturn, 1) := dk_176 (dk_at dksJ2_grow_2_1 20 rfl rfl)
theorem dJ2_grow_2_45 : decode cJ2_grow_2 45 = .ok (.aload_n 0, 1) := dk_42 (dk_at dksJ2_grow_2_1 21 rfl rfl)
theorem dJ2_grow_2_46 : decode cJ2_grow_2 46 = .ok (.bipush 10, 2) := dk_16 10 (dk_at dksJ2_grow_2_1 22 rfl rfl)
theorem dJ2_grow_2_48 : decode cJ2_grow_2 48 = .ok (.iload_n 1, 1) := dk_27 (dk_at dksJ2_grow_2_2 0 rfl rfl)
theorem dJ2_grow_2_49 : decode cJ2_grow_2 49 = .ok (.invokestatic 79, 3) := dk_184 0 79 (dk_at dksJ2_grow_2_2 1 rfl rfl)
theorem dJ2_grow_2_52 : decode cJ2_grow_2 52 = .ok (.anewarray 7, 3) := dk_189 0 7 (dk_at dksJ2_grow_2_2 4 rfl rfl)
theorem dJ2_grow_2_55 : decode cJ2_grow_2 55 = .ok (.dup_x1, 1) := dk_90 (dk_at dksJ2_grow_2_2 7 rfl rfl)
theorem dJ2_grow_2_56 : decode cJ2_grow_2 56 = .ok (.putfield 9, 3) := dk_181 0 9 (dk_at dksJ2_grow_2_2 8 rfl rfl)
theorem dJ2_grow_2_59 : decode cJ2_grow_2 59 = .ok (.areturn, 1) := dk_176 (dk_at dksJ2_grow_2_2 11 rfl rfl)
def dkwJ3_init_1 : List UInt8 := [182, 0, 27, 87, 177]
abbrev dktJ3_init_1 : List UInt8 := dkwJ3_init_1 ++ []
def dkwJ3_init_0 : List UInt8 := [42, 183, 0, 1, 42, 42, 181, 0, 7, 42, 178, 0, 13, 181, 0, 17, 42, 178, 0, 20, 181, 0, 24, 42]
abbrev dktJ3_init_0 : List UInt8 := dkwJ3_init_0 ++ dktJ3_init_1
theorem dksJ3_init_0 : cJ3_init.data.toList.drop 0 = dktJ3_init_0 := by decide +kernel
theorem dksJ3_init_1 : cJ3_init.data.toList.drop 24 = dktJ3_init_1 := dk_seg dksJ3_init_0 24 rfl rfl
theorem dJ3_init_0 : decode cJ3_init 0 = .ok (.aload_n 0, 1) := dk_42 (dk_at dksJ3_init_0 0 rfl rfl)
theorem dJ3_init_1 : decode cJ3_init 1 = .ok (.invokespecial 1, 3) := dk_183 0 1 (dk_at dksJ3_init_0 1 rfl rfl)
theorem dJ3_init_4 : decode cJ3_init 4 = .ok (.aload_n 0, 1) := dk_42 (dk_at dksJ3_init_0 4 rfl rfl)
theorem dJ3_init_5 : decode cJ3_init 5 = .ok (.aload_n 0, 1) := dk_42 (dk_at dksJ3_init_0 5 rfl rfl)
theorem dJ3_init_6 : decode cJ3_init 6 = .ok (.putfield 7, 3) := dk_181 0 7 (dk_at dksJ3_init_0 6 rfl rfl)
theorem dJ3_init_9 : decode cJ3_init 9 = .ok (.aload_n 0, 1) := dk_42 (dk_at dksJ3_init_0 9 rfl rfl)
theorem dJ3_init_10 : decode cJ3_init 10 = .ok (.getstatic 13, 3) := dk_178 0 13 (dk_at dksJ3_init_0 10 rfl rfl)
theorem dJ3_init_13 : decode cJ3_init 13 = .ok (.putfield 17, 3) := dk_181 0 17 (dk_at dksJ3_init_0 13 rfl rfl)
theorem dJ3_init_16 : decode cJ3_init 16 = .ok (.aload_n 0, 1) := dk_42 (dk_at dksJ3_init_0 16 rfl rfl)
theorem dJ3_init_17 : decode cJ3_init 17 = .ok (.getstatic 20, 3) := dk_178 0 20 (dk_at dksJ3_init_0 17 rfl rfl)
theorem dJ3_init_20 : decode cJ3_init 20 = .ok (.putfield 24, 3) := dk_181 0 24 (dk_at dksJ3_init_0 20 rfl rfl)
theorem dJ3_init_23 : decode cJ3_init 23 = .ok (.aload_n 0, 1) := dk_42 (dk_at dksJ3_init_0 23 rfl rfl)
theorem dJ3_init_24 : decode cJ3_init 24 = .ok (.invokevirtual 27, 3) := dk_182 0 27 (dk_at dksJ3_init_1 0 rfl rfl)
theorem dJ3_init_27 : decode cJ3_init 27 = .ok (.pop, 1) := dk_87 (dk_at dksJ3_init_1 3 rfl rfl)
theorem dJ3_init_28 : decode cJ3_init 28 = .ok (.return_, 1) := dk_177 (dk_at dksJ3_init_1 4 rfl rfl)
def dkwJ3_init_2_2 : List UInt8 := [44, 181, 0, 7, 29, 154, 0, 8, 42, 1, 181, 0, 24, 177]
abbrev dktJ3_init_2_2 : List UInt8 := dkwJ3_init_2_2 ++ []
def dkwJ3_init_2_1 : List UInt8 := [21, 4, 153, 0, 11, 42, 182, 0, 27, 87, 167, 0, 8, 42, 1, 181, 0, 17, 42, 43, 181, 0, 31, 42]
abbrev dktJ3_init_2_1 : List UInt8 := dkwJ3_init_2_1 ++ dktJ3_init_2_2
def dkwJ3_init_2_0 : List UInt8 := [42, 183, 0, 1, 42, 42, 181, 0, 7, 42, 178, 0, 13, 181, 0, 17, 42, 178, 0, 20, 181, 0, 24]
abbrev dktJ3_init_2_0 : List UInt8 := dkwJ3_init_2_0 ++ dktJ3_init_2_1
theorem dksJ3_init_2_0 : cJ3_init_2.data.toList.drop 0 = dktJ3_init_2_0 := by decide +kernel
theorem dksJ3_init_2_1 : cJ3_init_2.data.toList.drop 23 = dktJ3_init_2_1 := dk_seg dksJ3_init_2_0 23 rfl rfl
theorem dksJ3_init_2_2 : cJ3_init_2.data.toList.drop 47 = dktJ3_init_2_2 := dk_seg dksJ3_init_2_1 24 rfl rfl
theorem dJ3_init_2_0 : decode cJ3_init_2 0 = .ok (.aload_n 0, 1) := dk_42 (dk_at dksJ3_init_2_0 0 rfl rfl)
theorem dJ3_init_2_1 : decode cJ3_init_2 1 = .ok (.invokespecial 1, 3) := dk_183 0 1 (dk_at dksJ3_init_2_0 1 rfl rfl)
theorem dJ3_init_2_4 : decode cJ3_init_2 4 = .ok (.aload_n 0, 1) := dk_42 (dk_at dksJ3_init_2_0 4 rfl rfl)
theorem dJ3_init_2_5 : decode cJ3_init_2 5 = .ok (.aload_n 0, 1) := dk_42 (dk_at dksJ3_init_2_0 5 rfl rfl)
theorem dJ3_init_2_6 : decode cJ3_init_2 6 = .ok (.putfield 7, 3) := dk_181 0 7 (dk_at dksJ3_init_2_0 6 rfl rfl)
theorem dJ3_init_2_9 : decode cJ3_init_2 9 = .ok (.aload_n 0, 1) := dk_42 (dk_at dksJ3_init_2_0 9 rfl rfl)
theorem dJ3_init_2_10 : decode cJ3_init_2 10 = .ok (.getstatic 13, 3) := dk_178 0 13 (dk_at dksJ3_init_2_0 10 rfl rfl)
theorem dJ3_init_2_13 : decode cJ3_init_2 13 = .ok (.putfield 17, 3) := dk_181 0 17 (dk_at dksJ3_init_2_0 13 rfl rfl)
theorem dJ3_init_2_16 : decode cJ3_init_2 16 = .ok (.aload_n 0, 1) := dk_42 (dk_at dksJ3_init_2_0 16 rfl rfl)
theorem dJ3_init_2_17 : decode cJ3_init_2 17 = .ok (.getstatic 20, 3) := dk_178 0 20 (dk_at dksJ3_init_2_0 17 rfl rfl)
theorem dJ3_init_2_20 : decode cJ3_init_2 20 = .ok (.putfield 24, 3) := dk_181 0 24 (dk_at dksJ3_init_2_0 20 rfl rfl)
theorem dJ3_init_2_23 : decode cJ3_init_2 23 = .ok (.iload 4, 2) := dk_21 4 (dk_at dksJ3_init_2_1 0 rfl rfl)
theorem dJ3_init_2_25 : decode cJ3_init_2 25 = .ok (.ifCond .eq 11, 3) := dk_153 0 11 (dk_at dksJ3_init_2_1 2 rfl rfl)
theorem dJ3_init_2_28 : decode cJ3_init_2 28 = .ok (.aload_n 0, 1) := dk_42 (dk_at dksJ3_init_2_1 5 rfl rfl)
theorem dJ3_init_2_29 : decode cJ3_init_2 29 = .ok (.invokevirtual 27, 3) := dk_182 0 27 (dk_at dksJ3_init_2_1 6 rfl rfl)
theorem dJ3_init_2_32 : decode cJ3_init_2 32 = .ok (.pop, 1) := dk_87 (dk_at dksJ3_init_2_1 9 rfl rfl)
theorem dJ3_init_2_33 : decode cJ3_init_2 33 = .ok (.goto 8, 3) := dk_167 0 8 (dk_at dksJ3_init_2_1 10 rfl rfl)
theorem dJ3_init_2_36 : decode cJ3_init_2 36 = .ok (.aload_n 0, 1) := dk_42 (dk_at dksJ3_init_2_1 13 rfl rfl)
theorem dJ3_init_2_37 : decode cJ3_init_2 37 = .ok (.aconst_null, 1) := dk_1 (dk_at dksJ3_init_2_1 14 rfl rfl)
theorem dJ3_init_2_38 : decode cJ3_init_2 38 = .ok (.putfield 17, 3) := dk_181 0 17 (dk_at dksJ3_init_2_1 15 rfl rfl)
theorem dJ3_init_2_41 : decode cJ3_init_2 41 = .ok (.aload_n 0, 1) := dk_42 (dk_at dksJ3_init_2_1 18 rfl rfl)
theorem dJ3_init_2_42 : decode cJ3_init_2 42 = .ok (.aload_n 1, 1) := dk_43 (dk_at dksJ3_init_2_1 19 rfl rfl)
theorem dJ3_init_2_43 : decode cJ3_init_2 43 = .ok (.putfield 31, 3) := dk_181 0 31 (dk_at dksJ3_init_2_1 20 rfl rfl)
theorem dJ3_init_2_46 : decode cJ3_init_2 46 = .ok (.aload_n 0, 1) := dk_42 (dk_at dksJ3_init_2_1 23 rfl rfl)
theorem dJ3_init_2_47 : decode cJ3_init_2 47 = .ok (.aload_n 2, 1) := dk_44 (dk_at dksJ3_init_2_2 0 rfl rfl)
theorem dJ3_init_2_48 : decode cJ3_init_2 48 = .ok (.putfield 7, 3) := dk_181 0 7 (dk_at dksJ3_init_2_2 1 rfl rfl)
theorem dJ3_init_2_51 : decode cJ3_init_2 51 = .ok (.iload_n 3, 1) := dk_29 (dk_at dksJ3_init_2_2 4 rfl rfl)
theorem dJ3_init_2_52 : decode cJ3_init_2 52 = .ok (.ifCond .ne 8, 3) := dk_154 0 8 (dk_at dksJ3_init_2_2 5 rfl rfl)
theorem dJ3_init_2_55 : decode cJ3_init_2 55 = .ok (.aload_n 0, 1) := dk_42 (dk_at dksJ3_init_2_2 8 rfl rfl)
theorem dJ3_init_2_56 : decode cJ3_init_2 56 = .ok (.aconst_null, 1) := dk_1 (dk_at dksJ3_init_2_2 9 rfl rfl)
theorem dJ3_init_2_57 : decode cJ3_init_2 57 = .ok (.putfield 24, 3) := dk_181 0 24 (dk_at dksJ3_init_2_2 10 rfl rfl)
theorem dJ3_init_2_60 : decode cJ3_init_2 60 = .ok (.return_, 1) := dk_177 (dk_at dksJ3_init_2_2 13 rfl rfl)
theorem dJ4_init_0 : decode cJ4_init 0 = .ok (.aload_n 0, 1) := by decide +kernel
theorem dJ4_init_1 : decode cJ4_init 1 = .ok (.invokespecial 1, 3) := by decide +kernel
theorem dJ4_init_4 : decode cJ4_init 4 = .ok (.return_, 1) := by decide +kernel
def dkwJ4_init_2_0 : List UInt8 := [42, 43, 44, 29, 21, 4, 183, 0, 16, 177]
abbrev dktJ4_init_2_0 : List UInt8 := dkwJ4_init_2_0 ++ []
theorem dksJ4_init_2_0 : cJ4_init_2.data.toList.drop 0 = dktJ4_init_2_0 := by decide +kernel
theorem dJ4_init_2_0 : decode cJ4_init_2 0 = .ok (.aload_n 0, 1) := dk_42 (dk_at dksJ4_init_2_0 0 rfl rfl)
theorem dJ4_init_2_1 : decode cJ4_init_2 1 = .ok (.aload_n 1, 1) := dk_43 (dk_at dksJ4_init_2_0 1 rfl rfl)
theorem dJ4_init_2_2 : decode cJ4_init_2 2 = .ok (.aload_n 2, 1) := dk_44 (dk_at dksJ4_init_2_0 2 rfl rfl)
theorem dJ4_init_2_3 : decode cJ4_init_2 3 = .ok (.iload_n 3, 1) := dk_29 (dk_at dksJ4_init_2_0 3 rfl rfl)
theorem dJ4_init_2_4 : decode cJ4_init_2 4 = .ok (.iload 4, 2) := dk_21 4 (dk_at dksJ4_init_2_0 4 rfl rfl)
theorem dJ4_init_2_6 : decode cJ4_init_2 6 = .ok (.invokespecial 16, 3) := dk_183 0 16 (dk_at dksJ4_init_2_0 6 rfl rfl)
theorem dJ4_init_2_9 : decode cJ4_init_2 9 = .ok (.return_, 1) := dk_177 (dk_at dksJ4_init_2_0 9 rfl rfl)
theorem dJ5_init_0 : decode cJ5_init 0 = .ok (.aload_n 0, 1) := by decide +kernel
theorem dJ5_init_1 : decode cJ5_init 1 = .ok (.invokespecial 1, 3) := by decide +kernel
theorem dJ5_init_4 : decode cJ5_init 4 = .ok (.return_, 1) := by decide +kernel
theorem dJ6_init_0 : decode cJ6_init 0 = .ok (.aload_n 0, 1) := by decide +kernel
theorem dJ6_init_1 : decode cJ6_init 1 = .ok (.invokespecial 1, 3) := by decide +kernel
theorem dJ6_init_4 : decode cJ6_init 4 = .ok (.return_, 1) := by decide +kernel
def dkwJ7_max_0 : List UInt8 := [26, 27, 161, 0, 7, 26, 167, 0, 4, 27, 172]
abbrev dktJ7_max_0 : List UInt8 := dkwJ7_max_0 ++ []
theorem dksJ7_max_0 : cJ7_max.data.toList.drop 0 = dktJ7_max_0 := by decide +kernel
theorem dJ7_max_0 : decode cJ7_max 0 = .ok (.iload_n 0, 1) := dk_26 (dk_at dksJ7_max_0 0 rfl rfl)
theorem dJ7_max_1 : decode cJ7_max 1 = .ok (.iload_n 1, 1) := dk_27 (dk_at dksJ7_max_0 1 rfl rfl)
theorem dJ7_max_2 : decode cJ7_max 2 = .ok (.if_icmp .lt 7, 3) := dk_161 0 7 (dk_at dksJ7_max_0 2 rfl rfl)
theorem dJ7_max_5 : decode cJ7_max 5 = .ok (.iload_n 0, 1) := dk_26 (dk_at dksJ7_max_0 5 rfl rfl)
theorem dJ7_max_6 : decode cJ7_max 6 = .ok (.goto 4, 3) := dk_167 0 4 (dk_at dksJ7_max_0 6 rfl rfl)
theorem dJ7_max_9 : decode cJ7_max 9 = .ok (.iload_n 1, 1) := dk_27 (dk_at dksJ7_max_0 9 rfl rfl)
theorem dJ7_max_10 : decode cJ7_max 10 = .ok (.ireturn, 1) := dk_172 (dk_at dksJ7_max_0 10 rfl rfl)
def dkwJ7_min_0 : List UInt8 := [26, 27, 163, 0, 7, 26, 167, 0, 4, 27, 172]
abbrev dktJ7_min_0 : List UInt8 := dkwJ7_min_0 ++ []
theorem dksJ7_min_0 : cJ7_min.data.toList.drop 0 = dktJ7_min_0 := by decide +kernel
theorem dJ7_min_0 : decode cJ7_min 0 = .ok (.iload_n 0, 1) := dk_26 (dk_at dksJ7_min_0 0 rfl rfl)
theorem dJ7_min_1 : decode cJ7_min 1 = .ok (.iload_n 1, 1) := dk_27 (dk_at dksJ7_min_0 1 rfl rfl)
theorem dJ7_min_2 : decode cJ7_min 2 = .ok (.if_icmp .gt 7, 3) := dk_163 0 7 (dk_at dksJ7_min_0 2 rfl rfl)
theorem dJ7_min_5 : decode cJ7_min 5 = .ok (.iload_n 0, 1) := dk_26 (dk_at dksJ7_min_0 5 rfl rfl)
theorem dJ7_min_6 : decode cJ7_min 6 = .ok (.goto 4, 3) := dk_167 0 4 (dk_at dksJ7_min_0 6 rfl rfl)
theorem dJ7_min_9 : decode cJ7_min 9 = .ok (.iload_n 1, 1) := dk_27 (dk_at dksJ7_min_0 9 rfl rfl)
theorem dJ7_min_10 : decode cJ7_min 10 = .ok (.ireturn, 1) := dk_172 (dk_at dksJ7_min_0 10 rfl rfl)
def dkwJ7_abs_0 : List UInt8 := [26, 156, 0, 8, 26, 116, 167, 0, 4, 26, 172]
abbrev dktJ7_abs_0 : List UInt8 := dkwJ7_abs_0 ++ []
theorem dksJ7_abs_0 : cJ7_abs.data.toList.drop 0 = dktJ7_abs_0 := by decide +kernel
theorem dJ7_abs_0 : decode cJ7_abs 0 = .ok (.iload_n 0, 1) := dk_26 (dk_at dksJ7_abs_0 0 rfl rfl)
theorem dJ7_abs_1 : decode cJ7_abs 1 = .ok (.ifCond .ge 8, 3) := dk_156 0 8 (dk_at dksJ7_abs_0 1 rfl rfl)
theorem dJ7_abs_4 : decode cJ7_abs 4 = .ok (.iload_n 0, 1) := dk_26 (dk_at dksJ7_abs_0 4 rfl rfl)
theorem dJ7_abs_5 : decode cJ7_abs 5 = .ok (.ineg, 1) := dk_116 (dk_at dksJ7_abs_0 5 rfl rfl)
theorem dJ7_abs_6 : decode cJ7_abs 6 = .ok (.goto 4, 3) := dk_167 0 4 (dk_at dksJ7_abs_0 6 rfl rfl)
theorem dJ7_abs_9 : decode cJ7_abs 9 = .ok (.iload_n 0, 1) := dk_26 (dk_at dksJ7_abs_0 9 rfl rfl)
theorem dJ7_abs_10 : decode cJ7_abs 10 = .ok (.ireturn, 1) := dk_172 (dk_at dksJ7_abs_0 10 rfl rfl)
def dkwJ8_length_0 : List UInt8 := [42, 180, 0, 9, 190, 42, 182, 1, 79, 122, 172]
abbrev dktJ8_length_0 : List UInt8 := dkwJ8_length_0 ++ []
theorem dksJ8_length_0 : cJ8_length.data.toList.drop 0 = dktJ8_length_0 := by decide +kernel
theorem dJ8_length_0 : decode cJ8_length 0 = .ok (.aload_n 0, 1) := dk_42 (dk_at dksJ8_length_0 0 rfl rfl)
theorem dJ8_length_1 : decode cJ8_length 1 = .ok (.getfield 9, 3) := dk_180 0 9 (dk_at dksJ8_length_0 1 rfl rfl)
theorem dJ8_length_4 : decode cJ8_length 4 = .ok (.arraylength, 1) := dk_190 (dk_at dksJ8_length_0 4 rfl rfl)
theorem dJ8_length_5 : decode cJ8_length 5 = .ok (.aload_n 0, 1) := dk_42 (dk_at dksJ8_length_0 5 rfl rfl)
theorem dJ8_length_6 : decode cJ8_length 6 = .ok (.invokevirtual 335, 3) := dk_182 1 79 (dk_at dksJ8_length_0 6 rfl rfl)
theorem dJ8_length_9 : decode cJ8_length 9 = .ok (.ishr, 1) := dk_122 (dk_at dksJ8_length_0 9 rfl rfl)
theorem dJ8_length_10 : decode cJ8_length 10 = .ok (.ireturn, 1) := dk_172 (dk_at dksJ8_length_0 10 rfl rfl)
def dkwJ8_coder_0 : List UInt8 := [178, 0, 38, 153, 0, 10, 42, 180, 0, 15, 167, 0, 4, 4, 172]
abbrev dktJ8_coder_0 : List UInt8 := dkwJ8_coder_0 ++ []
theorem dksJ8_coder_0 : cJ8_coder.data.toList.drop 0 = dktJ8_coder_0 := by decide +kernel
theorem dJ8_coder_0 : decode cJ8_coder 0 = .ok (.getstatic 38, 3) := dk_178 0 38 (dk_at dksJ8_coder_0 0 rfl rfl)
theorem dJ8_coder_3 : decode cJ8_coder 3 = .ok (.ifCond .eq 10, 3) := dk_153 0 10 (dk_at dksJ8_coder_0 3 rfl rfl)
theorem dJ8_coder_6 : decode cJ8_coder 6 = .ok (.aload_n 0, 1) := dk_42 (dk_at dksJ8_coder_0 6 rfl rfl)
theorem dJ8_coder_7 : decode cJ8_coder 7 = .ok (.getfield 15, 3) := dk_180 0 15 (dk_at dksJ8_coder_0 7 rfl rfl)
theorem dJ8_coder_10 : decode cJ8_coder 10 = .ok (.goto 4, 3) := dk_167 0 4 (dk_at dksJ8_coder_0 10 rfl rfl)
theorem dJ8_coder_13 : decode cJ8_coder 13 = .ok (.iconst 1, 1) := dk_4 (dk_at dksJ8_coder_0 13 rfl rfl)
theorem dJ8_coder_14 : decode cJ8_coder 14 = .ok (.ireturn, 1) := dk_172 (dk_at dksJ8_coder_0 14 rfl rfl)
def dkwJ8_charAt_1 : List UInt8 := [172]
abbrev dktJ8_charAt_1 : List UInt8 := dkwJ8_charAt_1 ++ []
def dkwJ8_charAt_0 : List UInt8 := [42, 182, 1, 236, 153, 0, 12, 42, 180, 0, 9, 27, 184, 1, 239, 172, 42, 180, 0, 9, 27, 184, 1, 242]
abbrev dktJ8_charAt_0 : List UInt8 := dkwJ8_charAt_0 ++ dktJ8_charAt_1
theorem dksJ8_charAt_0 : cJ8_charAt.data.toList.drop 0 = dktJ8_charAt_0 := by decide +kernel
theorem dksJ8_charAt_1 : cJ8_charAt.data.toList.drop 24 = dktJ8_charAt_1 := dk_seg dksJ8_charAt_0 24 rfl rfl
theorem dJ8_charAt_0 : decode cJ8_charAt 0 = .ok (.aload_n 0, 1) := dk_42 (dk_at dksJ8_charAt_0 0 rfl rfl)
theorem dJ8_charAt_1 : decode cJ8_charAt 1 = .ok (.invokevirtual 492, 3) := dk_182 1 236 (dk_at dksJ8_charAt_0 1 rfl rfl)
theorem dJ8_charAt_4 : decode cJ8_charAt 4 = .ok (.ifCond .eq 12, 3) := dk_153 0 12 (dk_at dksJ8_charAt_0 4 rfl rfl)
theorem dJ8_charAt_7 : decode cJ8_charAt 7 = .ok (.aload_n 0, 1) := dk_42 (dk_at dksJ8_charAt_0 7 rfl rfl)
theorem dJ8_charAt_8 : decode cJ8_charAt 8 = .ok (.getfield 9, 3) := dk_180 0 9 (dk_at dksJ8_charAt_0 8 rfl rfl)
theorem dJ8_charAt_11 : decode cJ8_charAt 11 = .ok (.iload_n 1, 1) := dk_27 (dk_at dksJ8_charAt_0 11 rfl rfl)
theorem dJ8_charAt_12 : decode cJ8_charAt 12 = .ok (.invokestatic 495, 3) := dk_184 1 239 (dk_at dksJ8_charAt_0 12 rfl rfl)
theorem dJ8_charAt_15 : decode cJ8_charAt 15 = .ok (.ireturn, 1) := dk_172 (dk_at dksJ8_charAt_0 15 rfl rfl)
theorem dJ8_charAt_16 : decode cJ8_charAt 16 = .ok (.aload_n 0, 1) := dk_42 (dk_at dksJ8_charAt_0 16 rfl rfl)
theorem dJ8_charAt_17 : decode cJ8_charAt 17 = .ok (.getfield 9, 3) := dk_180 0 9 (dk_at dksJ8_charAt_0 17 rfl rfl)
theorem dJ8_charAt_20 : decode cJ8_charAt 20 = .ok (.iload_n 1, 1) := dk_27 (dk_at dksJ8_charAt_0 20 rfl rfl)
theorem dJ8_charAt_21 : decode cJ8_charAt 21 = .ok (.invokestatic 498, 3) := dk_184 1 242 (dk_at dksJ8_charAt_0 21 rfl rfl)
theorem dJ8_charAt_24 : decode cJ8_charAt 24 = .ok (.ireturn, 1) := dk_172 (dk_at dksJ8_charAt_1 0 rfl rfl)
def dkwJ8_isLatin1_0 : List UInt8 := [178, 0, 38, 153, 0, 14, 42, 180, 0, 15, 154, 0, 7, 4, 167, 0, 4, 3, 172]
abbrev dktJ8_isLatin1_0 : List UInt8 := dkwJ8_isLatin1_0 ++ []
theorem dksJ8_isLatin1_0 : cJ8_isLatin1.data.toList.drop 0 = dktJ8_isLatin1_0 := by decide +kernel
theorem dJ8_isLatin1_0 : decode cJ8_isLatin1 0 = .ok (.getstatic 38, 3) := dk_178 0 38 (dk_at dksJ8_isLatin1_0 0 rfl rfl)
theorem dJ8_isLatin1_3 : decode cJ8_isLatin1 3 = .ok (.ifCond .eq 14, 3) := dk_153 0 14 (dk_at dksJ8_isLatin1_0 3 rfl rfl)
theorem dJ8_isLatin1_6 : decode cJ8_isLatin1 6 = .ok (.aload_n 0, 1) := dk_42 (dk_at dksJ8_isLatin1_0 6 rfl rfl)
theorem dJ8_isLatin1_7 : decode cJ8_isLatin1 7 = .ok (.getfield 15, 3) := dk_180 0 15 (dk_at dksJ8_isLatin1_0 7 rfl rfl)
theorem dJ8_isLatin1_10 : decode cJ8_isLatin1 10 = .ok (.ifCond .ne 7, 3) := dk_154 0 7 (dk_at dksJ8_isLatin1_0 10 rfl rfl)
theorem dJ8_isLatin1_13 : decode cJ8_isLatin1 13 = .ok (.iconst 1, 1) := dk_4 (dk_at dksJ8_isLatin1_0 13 rfl rfl)
theorem dJ8_isLatin1_14 : decode cJ8_isLatin1 14 = .ok (.goto 4, 3) := dk_167 0 4 (dk_at dksJ8_isLatin1_0 14 rfl rfl)
theorem dJ8_isLatin1_17 : decode cJ8_isLatin1 17 = .ok (.iconst 0, 1) := dk_3 (dk_at dksJ8_isLatin1_0 17 rfl rfl)
theorem dJ8_isLatin1_18 : decode cJ8_isLatin1 18 = .ok (.ireturn, 1) := dk_172 (dk_at dksJ8_isLatin1_0 18 rfl rfl)
def dkwJ8_checkIndex_0 : List UInt8 := [26, 27, 178, 4, 29, 184, 4, 35, 87, 177]
abbrev dktJ8_checkIndex_0 : List UInt8 := dkwJ8_checkIndex_0 ++ []
theorem dksJ8_checkIndex_0 : cJ8_checkIndex.data.toList.drop 0 = dktJ8_checkIndex_0 := by decide +kernel
theorem dJ8_checkIndex_0 : decode cJ8_checkIndex 0 = .ok (.iload_n 0, 1) := dk_26 (dk_at dksJ8_checkIndex_0 0 rfl rfl)
theorem dJ8_checkIndex_1 : decode cJ8_checkIndex 1 = .ok (.iload_n 1, 1) := dk_27 (dk_at dksJ8_checkIndex_0 1 rfl rfl)
theorem dJ8_checkIndex_2 : decode cJ8_checkIndex 2 = .ok (.getstatic 1053, 3) := dk_178 4 29 (dk_at dksJ8_checkIndex_0 2 rfl rfl)
theorem dJ8_checkIndex_5 : decode cJ8_checkIndex 5 = .ok (.invokestatic 1059, 3) := dk_184 4 35 (dk_at dksJ8_checkIndex_0 5 rfl rfl)
theorem dJ8_checkIndex_8 : decode cJ8_checkIndex 8 = .ok (.pop, 1) := dk_87 (dk_at dksJ8_checkIndex_0 8 rfl rfl)
theorem dJ8_checkIndex_9 : decode cJ8_checkIndex 9 = .ok (.return_, 1) := dk_177 (dk_at dksJ8_checkIndex_0 9 rfl rfl)
def dkwJ9_charAt_0 : List UInt8 := [27, 42, 190, 184, 0, 9, 42, 27, 51, 17, 0, 255, 126, 146, 172]
abbrev dktJ9_charAt_0 : List UInt8 := dkwJ9_charAt_0 ++ []
theorem dksJ9_charAt_0 : cJ9_charAt.data.toList.drop 0 = dktJ9_charAt_0 := by decide +kernel
theorem dJ9_charAt_0 : decode cJ9_charAt 0 = .ok (.iload_n 1, 1) := dk_27 (dk_at dksJ9_charAt_0 0 rfl rfl)
theorem dJ9_charAt_1 : decode cJ9_charAt 1 = .ok (.aload_n 0, 1) := dk_42 (dk_at dksJ9_charAt_0 1 rfl rfl)
theorem dJ9_charAt_2 : decode cJ9_charAt 2 = .ok (.arraylength, 1) := dk_190 (dk_at dksJ9_charAt_0 2 rfl rfl)
theorem dJ9_charAt_3 : decode cJ9_charAt 3 = .ok (.invokestatic 9, 3) := dk_184 0 9 (dk_at dksJ9_charAt_0 3 rfl rfl)
theorem dJ9_charAt_6 : decode cJ9_charAt 6 = .ok (.aload_n 0, 1) := dk_42 (dk_at dksJ9_charAt_0 6 rfl rfl)
theorem dJ9_charAt_7 : decode cJ9_charAt 7 = .ok (.iload_n 1, 1) := dk_27 (dk_at dksJ9_charAt_0 7 rfl rfl)
theorem dJ9_charAt_8 : decode cJ9_charAt 8 = .ok (.baload, 1) := dk_51 (dk_at dksJ9_charAt_0 8 rfl rfl)
theorem dJ9_charAt_9 : decode cJ9_charAt 9 = .ok (.sipush 255, 3) := dk_17 0 255 (dk_at dksJ9_charAt_0 9 rfl rfl)
theorem dJ9_charAt_12 : decode cJ9_charAt 12 = .ok (.iand, 1) := dk_126 (dk_at dksJ9_charAt_0 12 rfl rfl)
theorem dJ9_charAt_13 : decode cJ9_charAt 13 = .ok (.i2c, 1) := dk_146 (dk_at dksJ9_charAt_0 13 rfl rfl)
theorem dJ9_charAt_14 : decode cJ9_charAt 14 = .ok (.ireturn, 1) := dk_172 (dk_at dksJ9_charAt_0 14 rfl rfl)
