set_option maxRecDepth 100000
def dkwX1_feed_4 : List UInt8 := [96, 181, 0, 1, 132, 10, 248, 167, 255, 223, 132, 8, 1, 167, 255, 199, 42, 180, 0, 1, 172]
abbrev dktX1_feed_4 : List UInt8 := dkwX1_feed_4 ++ []
def dkwX1_feed_3 : List UInt8 := [155, 0, 34, 42, 180, 0, 7, 42, 180, 0, 1, 21, 9, 21, 10, 122, 145, 84, 42, 89, 180, 0, 1, 4]
abbrev dktX1_feed_3 : List UInt8 := dkwX1_feed_3 ++ dktX1_feed_4
def dkwX1_feed_2 : List UInt8 := [54, 8, 21, 8, 21, 7, 162, 0, 56, 25, 6, 21, 8, 46, 54, 9, 16, 24, 54, 10, 21, 10]
abbrev dktX1_feed_2 : List UInt8 := dkwX1_feed_2 ++ dktX1_feed_3
def dkwX1_feed_1 : List UInt8 := [28, 79, 89, 5, 29, 79, 89, 6, 21, 4, 79, 89, 7, 21, 5, 79, 58, 6, 25, 6, 190, 54, 7, 3]
abbrev dktX1_feed_1 : List UInt8 := dkwX1_feed_1 ++ dktX1_feed_2
def dkwX1_feed_0 : List UInt8 := [42, 180, 0, 1, 16, 20, 96, 17, 2, 188, 164, 0, 5, 2, 172, 8, 188, 10, 89, 3, 27, 79, 89, 4]
abbrev dktX1_feed_0 : List UInt8 := dkwX1_feed_0 ++ dktX1_feed_1
theorem dksX1_feed_0 : cX1_feed.data.toList.drop 0 = dktX1_feed_0 := by decide +kernel
theorem dksX1_feed_1 : cX1_feed.data.toList.drop 24 = dktX1_feed_1 := dk_seg dksX1_feed_0 24 rfl rfl
theorem dksX1_feed_2 : cX1_feed.data.toList.drop 48 = dktX1_feed_2 := dk_seg dksX1_feed_1 24 rfl rfl
theorem dksX1_feed_3 : cX1_feed.data.toList.drop 70 = dktX1_feed_3 := dk_seg dksX1_feed_2 22 rfl rfl
theorem dksX1_feed_4 : cX1_feed.data.toList.drop 94 = dktX1_feed_4 := dk_seg dksX1_feed_3 24 rfl rfl
theorem dX1_feed_0 : decode cX1_feed 0 = .ok (.aload_n 0, 1) := dk_42 (dk_at dksX1_feed_0 0 rfl rfl)
theorem dX1_feed_1 : decode cX1_feed 1 = .ok (.getfield 1, 3) := dk_180 0 1 (dk_at dksX1_feed_0 1 rfl rfl)
theorem dX1_feed_4 : decode cX1_feed 4 = .ok (.bipush 20, 2) := dk_16 20 (dk_at dksX1_feed_0 4 rfl rfl)
theorem dX1_feed_6 : decode cX1_feed 6 = .ok (.iadd, 1) := dk_96 (dk_at dksX1_feed_0 6 rfl rfl)
theorem dX1_feed_7 : decode cX1_feed 7 = .ok (.sipush 700, 3) := dk_17 2 188 (dk_at dksX1_feed_0 7 rfl rfl)
theorem dX1_feed_10 : decode cX1_feed 10 = .ok (.if_icmp .le 5, 3) := dk_164 0 5 (dk_at dksX1_feed_0 10 rfl rfl)
theorem dX1_feed_13 : decode cX1_feed 13 = .ok (.iconst (-1), 1) := dk_2 (dk_at dksX1_feed_0 13 rfl rfl)
theorem dX1_feed_14 : decode cX1_feed 14 = .ok (.ireturn, 1) := dk_172 (dk_at dksX1_feed_0 14 rfl rfl)
theorem dX1_feed_15 : decode cX1_feed 15 = .ok (.iconst 5, 1) := dk_8 (dk_at dksX1_feed_0 15 rfl rfl)
theorem dX1_feed_16 : decode cX1_feed 16 = .ok (.newarray .int, 2) := dk_188_10 (dk_at dksX1_feed_0 16 rfl rfl)
theorem dX1_feed_18 : decode cX1_feed 18 = .ok (.dup, 1) := dk_89 (dk_at dksX1_feed_0 18 rfl rfl)
theorem dX1_feed_19 : decode cX1_feed 19 = .ok (.iconst 0, 1) := dk_3 (dk_at dksX1_feed_0 19 rfl rfl)
theorem dX1_feed_20 : decode cX1_feed 20 = .ok (.iload_n 1, 1) := dk_27 (dk_at dksX1_feed_0 20 rfl rfl)
theorem dX1_feed_21 : decode cX1_feed 21 = .ok (.iastore, 1) := dk_79 (dk_at dksX1_feed_0 21 rfl rfl)
theorem dX1_feed_22 : decode cX1_feed 22 = .ok (.dup, 1) := dk_89 (dk_at dksX1_feed_0 22 rfl rfl)
theorem dX1_feed_23 : decode cX1_feed 23 = .ok (.iconst 1, 1) := dk_4 (dk_at dksX1_feed_0 23 rfl rfl)
theorem dX1_feed_24 : decode cX1_feed 24 = .ok (.iload_n 2, 1) := dk_28 (dk_at dksX1_feed_1 0 rfl rfl)
theorem dX1_feed_25 : decode cX1_feed 25 = .ok (.iastore, 1) := dk_79 (dk_at dksX1_feed_1 1 rfl rfl)
theorem dX1_feed_26 : decode cX1_feed 26 = .ok (.dup, 1) := dk_89 (dk_at dksX1_feed_1 2 rfl rfl)
theorem dX1_feed_27 : decode cX1_feed 27 = .ok (.iconst 2, 1) := dk_5 (dk_at dksX1_feed_1 3 rfl rfl)
theorem dX1_feed_28 : decode cX1_feed 28 = .ok (.iload_n 3, 1) := dk_29 (dk_at dksX1_feed_1 4 rfl rfl)
theorem dX1_feed_29 : decode cX1_feed 29 = .ok (.iastore, 1) := dk_79 (dk_at dksX1_feed_1 5 rfl rfl)
theorem dX1_feed_30 : decode cX1_feed 30 = .ok (.dup, 1) := dk_89 (dk_at dksX1_feed_1 6 rfl rfl)
theorem dX1_feed_31 : decode cX1_feed 31 = .ok (.iconst 3, 1) := dk_6 (dk_at dksX1_feed_1 7 rfl rfl)
theorem dX1_feed_32 : decode cX1_feed 32 = .ok (.iload 4, 2) := dk_21 4 (dk_at dksX1_feed_1 8 rfl rfl)
theorem dX1_feed_34 : decode cX1_feed 34 = .ok (.iastore, 1) := dk_79 (dk_at dksX1_feed_1 10 rfl rfl)
theorem dX1_feed_35 : decode cX1_feed 35 = .ok (.dup, 1) := dk_89 (dk_at dksX1_feed_1 11 rfl rfl)
theorem dX1_feed_36 : decode cX1_feed 36 = .ok (.iconst 4, 1) := dk_7 (dk_at dksX1_feed_1 12 rfl rfl)
theorem dX1_feed_37 : decode cX1_feed 37 = .ok (.iload 5, 2) := dk_21 5 (dk_at dksX1_feed_1 13 rfl rfl)
theorem dX1_feed_39 : decode cX1_feed 39 = .ok (.iastore, 1) := dk_79 (dk_at dksX1_feed_1 15 rfl rfl)
theorem dX1_feed_40 : decode cX1_feed 40 = .ok (.astore 6, 2) := dk_58 6 (dk_at dksX1_feed_1 16 rfl rfl)
theorem dX1_feed_42 : decode cX1_feed 42 = .ok (.aload 6, 2) := dk_25 6 (dk_at dksX1_feed_1 18 rfl rfl)
theorem dX1_feed_44 : decode cX1_feed 44 = .ok (.arraylength, 1) := dk_190 (dk_at dksX1_feed_1 20 rfl rfl)
theorem dX1_feed_45 : decode cX1_feed 45 = .ok (.istore 7, 2) := dk_54 7 (dk_at dksX1_feed_1 21 rfl rfl)
theorem dX1_feed_47 : decode cX1_feed 47 = .ok (.iconst 0, 1) := dk_3 (dk_at dksX1_feed_1 23 rfl rfl)
theorem dX1_feed_48 : decode cX1_feed 48 = .ok (.istore 8, 2) := dk_54 8 (dk_at dksX1_feed_2 0 rfl rfl)
theorem dX1_feed_50 : decode cX1_feed 50 = .ok (.iload 8, 2) := dk_21 8 (dk_at dksX1_feed_2 2 rfl rfl)
theorem dX1_feed_52 : decode cX1_feed 52 = .ok (.iload 7, 2) := dk_21 7 (dk_at dksX1_feed_2 4 rfl rfl)
theorem dX1_feed_54 : decode cX1_feed 54 = .ok (.if_icmp .ge 56, 3) := dk_162 0 56 (dk_at dksX1_feed_2 6 rfl rfl)
theorem dX1_feed_57 : decode cX1_feed 57 = .ok (.aload 6, 2) := dk_25 6 (dk_at dksX1_feed_2 9 rfl rfl)
theorem dX1_feed_59 : decode cX1_feed 59 = .ok (.iload 8, 2) := dk_21 8 (dk_at dksX1_feed_2 11 rfl rfl)
theorem dX1_feed_61 : decode cX1_feed 61 = .ok (.iaload, 1) := dk_46 (dk_at dksX1_feed_2 13 rfl rfl)
theorem dX1_feed_62 : decode cX1_feed 62 = .ok (.istore 9, 2) := dk_54 9 (dk_at dksX1_feed_2 14 rfl rfl)
theorem dX1_feed_64 : decode cX1_feed 64 = .ok (.bipush 24, 2) := dk_16 24 (dk_at dksX1_feed_2 16 rfl rfl)
theorem dX1_feed_66 : decode cX1_feed 66 = .ok (.istore 10, 2) := dk_54 10 (dk_at dksX1_feed_2 18 rfl rfl)
theorem dX1_feed_68 : decode cX1_feed 68 = .ok (.iload 10, 2) := dk_21 10 (dk_at dksX1_feed_2 20 rfl rfl)
theorem dX1_feed_70 : decode cX1_feed 70 = .ok (.ifCond .lt 34, 3) := dk_155 0 34 (dk_at dksX1_feed_3 0 rfl rfl)
theorem dX1_feed_73 : decode cX1_feed 73 = .ok (.aload_n 0, 1) := dk_42 (dk_at dksX1_feed_3 3 rfl rfl)
theorem dX1_feed_74 : decode cX1_feed 74 = .ok (.getfield 7, 3) := dk_180 0 7 (dk_at dksX1_feed_3 4 rfl rfl)
theorem dX1_feed_77 : decode cX1_feed 77 = .ok (.aload_n 0, 1) := dk_42 (dk_at dksX1_feed_3 7 rfl rfl)
theorem dX1_feed_78 : decode cX1_feed 78 = .ok (.getfield 1, 3) := dk_180 0 1 (dk_at dksX1_feed_3 8 rfl rfl)
theorem dX1_feed_81 : decode cX1_feed 81 = .ok (.iload 9, 2) := dk_21 9 (dk_at dksX1_feed_3 11 rfl rfl)
theorem dX1_feed_83 : decode cX1_feed 83 = .ok (.iload 10, 2) := dk_21 10 (dk_at dksX1_feed_3 13 rfl rfl)
theorem dX1_feed_85 : decode cX1_feed 85 = .ok (.ishr, 1) := dk_122 (dk_at dksX1_feed_3 15 rfl rfl)
theorem dX1_feed_86 : decode cX1_feed 86 = .ok (.i2b, 1) := dk_145 (dk_at dksX1_feed_3 16 rfl rfl)
theorem dX1_feed_87 : decode cX1_feed 87 = .ok (.bastore, 1) := dk_84 (dk_at dksX1_feed_3 17 rfl rfl)
theorem dX1_feed_88 : decode cX1_feed 88 = .ok (.aload_n 0, 1) := dk_42 (dk_at dksX1_feed_3 18 rfl rfl)
theorem dX1_feed_89 : decode cX1_feed 89 = .ok (.dup, 1) := dk_89 (dk_at dksX1_feed_3 19 rfl rfl)
theorem dX1_feed_90 : decode cX1_feed 90 = .ok (.getfield 1, 3) := dk_180 0 1 (dk_at dksX1_feed_3 20 rfl rfl)
theorem dX1_feed_93 : decode cX1_feed 93 = .ok (.iconst 1, 1) := dk_4 (dk_at dksX1_feed_3 23 rfl rfl)
theorem dX1_feed_94 : decode cX1_feed 94 = .ok (.iadd, 1) := dk_96 (dk_at dksX1_feed_4 0 rfl rfl)
theorem dX1_feed_95 : decode cX1_feed 95 = .ok (.putfield 1, 3) := dk_181 0 1 (dk_at dksX1_feed_4 1 rfl rfl)
theorem dX1_feed_98 : decode cX1_feed 98 = .ok (.iinc 10 (-8), 3) := dk_132 10 248 (dk_at dksX1_feed_4 4 rfl rfl)
theorem dX1_feed_101 : decode cX1_feed 101 = .ok (.goto (-33), 3) := dk_167 255 223 (dk_at dksX1_feed_4 7 rfl rfl)
theorem dX1_feed_104 : decode cX1_feed 104 = .ok (.iinc 8 1, 3) := dk_132 8 1 (dk_at dksX1_feed_4 10 rfl rfl)
theorem dX1_feed_107 : decode cX1_feed 107 = .ok (.goto (-57), 3) := dk_167 255 199 (dk_at dksX1_feed_4 13 rfl rfl)
theorem dX1_feed_110 : decode cX1_feed 110 = .ok (.aload_n 0, 1) := dk_42 (dk_at dksX1_feed_4 16 rfl rfl)
theorem dX1_feed_111 : decode cX1_feed 111 = .ok (.getfield 1, 3) := dk_180 0 1 (dk_at dksX1_feed_4 17 rfl rfl)
theorem dX1_feed_114 : decode cX1_feed 114 = .ok (.ireturn, 1) := dk_172 (dk_at dksX1_feed_4 20 rfl rfl)
def dkwX1_init_2 : List UInt8 := [189, 0, 24, 181, 0, 38, 42, 16, 16, 188, 10, 181, 0, 42, 177]
abbrev dktX1_init_2 : List UInt8 := dkwX1_init_2 ++ []
def dkwX1_init_1 : List UInt8 := [42, 187, 0, 24, 89, 183, 0, 26, 181, 0, 27, 42, 187, 0, 31, 89, 183, 0, 33, 181, 0, 34, 42, 5]
abbrev dktX1_init_1 : List UInt8 := dkwX1_init_1 ++ dktX1_init_2
def dkwX1_init_0 : List UInt8 := [42, 183, 0, 11, 42, 17, 2, 188, 188, 8, 181, 0, 7, 42, 187, 0, 17, 89, 183, 0, 19, 181, 0, 20]
abbrev dktX1_init_0 : List UInt8 := dkwX1_init_0 ++ dktX1_init_1
theorem dksX1_init_0 : cX1_init.data.toList.drop 0 = dktX1_init_0 := by decide +kernel
theorem dksX1_init_1 : cX1_init.data.toList.drop 24 = dktX1_init_1 := dk_seg dksX1_init_0 24 rfl rfl
theorem dksX1_init_2 : cX1_init.data.toList.drop 48 = dktX1_init_2 := dk_seg dksX1_init_1 24 rfl rfl
theorem dX1_init_0 : decode cX1_init 0 = .ok (.aload_n 0, 1) := dk_42 (dk_at dksX1_init_0 0 rfl rfl)
theorem dX1_init_1 : decode cX1_init 1 = .ok (.invokespecial 11, 3) := dk_183 0 11 (dk_at dksX1_init_0 1 rfl rfl)
theorem dX1_init_4 : decode cX1_init 4 = .ok (.aload_n 0, 1) := dk_42 (dk_at dksX1_init_0 4 rfl rfl)
theorem dX1_init_5 : decode cX1_init 5 = .ok (.sipush 700, 3) := dk_17 2 188 (dk_at dksX1_init_0 5 rfl rfl)
theorem dX1_init_8 : decode cX1_init 8 = .ok (.newarray .byte, 2) := dk_188_8 (dk_at dksX1_init_0 8 rfl rfl)
theorem dX1_init_10 : decode cX1_init 10 = .ok (.putfield 7, 3) := dk_181 0 7 (dk_at dksX1_init_0 10 rfl rfl)
theorem dX1_init_13 : decode cX1_init 13 = .ok (.aload_n 0, 1) := dk_42 (dk_at dksX1_init_0 13 rfl rfl)
theorem dX1_init_14 : decode cX1_init 14 = .ok (.new 17, 3) := dk_187 0 17 (dk_at dksX1_init_0 14 rfl rfl)
theorem dX1_init_17 : decode cX1_init 17 = .ok (.dup, 1) := dk_89 (dk_at dksX1_init_0 17 rfl rfl)
theorem dX1_init_18 : decode cX1_init 18 = .ok (.invokespecial 19, 3) := dk_183 0 19 (dk_at dksX1_init_0 18 rfl rfl)
theorem dX1_init_21 : decode cX1_init 21 = .ok (.putfield 20, 3) := dk_181 0 20 (dk_at dksX1_init_0 21 rfl rfl)
theorem dX1_init_24 : decode cX1_init 24 = .ok (.aload_n 0, 1) := dk_42 (dk_at dksX1_init_1 0 rfl rfl)
theorem dX1_init_25 : decode cX1_init 25 = .ok (.new 24, 3) := dk_187 0 24 (dk_at dksX1_init_1 1 rfl rfl)
theorem dX1_init_28 : decode cX1_init 28 = .ok (.dup, 1) := dk_89 (dk_at dksX1_init_1 4 rfl rfl)
theorem dX1_init_29 : decode cX1_init 29 = .ok (.invokespecial 26, 3) := dk_183 0 26 (dk_at dksX1_init_1 5 rfl rfl)
theorem dX1_init_32 : decode cX1_init 32 = .ok (.putfield 27, 3) := dk_181 0 27 (dk_at dksX1_init_1 8 rfl rfl)
theorem dX1_init_35 : decode cX1_init 35 = .ok (.aload_n 0, 1) := dk_42 (dk_at dksX1_init_1 11 rfl rfl)
theorem dX1_init_36 : decode cX1_init 36 = .ok (.new 31, 3) := dk_187 0 31 (dk_at dksX1_init_1 12 rfl rfl)
theorem dX1_init_39 : decode cX1_init 39 = .ok (.dup, 1) := dk_89 (dk_at dksX1_init_1 15 rfl rfl)
theorem dX1_init_40 : decode cX1_init 40 = .ok (.invokespecial 33, 3) := dk_183 0 33 (dk_at dksX1_init_1 16 rfl rfl)
theorem dX1_init_43 : decode cX1_init 43 = .ok (.putfield 34, 3) := dk_181 0 34 (dk_at dksX1_init_1 19 rfl rfl)
theorem dX1_init_46 : decode cX1_init 46 = .ok (.aload_n 0, 1) := dk_42 (dk_at dksX1_init_1 22 rfl rfl)
theorem dX1_init_47 : decode cX1_init 47 = .ok (.iconst 2, 1) := dk_5 (dk_at dksX1_init_1 23 rfl rfl)
theorem dX1_init_48 : decode cX1_init 48 = .ok (.anewarray 24, 3) := dk_189 0 24 (dk_at dksX1_init_2 0 rfl rfl)
theorem dX1_init_51 : decode cX1_init 51 = .ok (.putfield 38, 3) := dk_181 0 38 (dk_at dksX1_init_2 3 rfl rfl)
theorem dX1_init_54 : decode cX1_init 54 = .ok (.aload_n 0, 1) := dk_42 (dk_at dksX1_init_2 6 rfl rfl)
theorem dX1_init_55 : decode cX1_init 55 = .ok (.bipush 16, 2) := dk_16 16 (dk_at dksX1_init_2 7 rfl rfl)
theorem dX1_init_57 : decode cX1_init 57 = .ok (.newarray .int, 2) := dk_188_10 (dk_at dksX1_init_2 9 rfl rfl)
theorem dX1_init_59 : decode cX1_init 59 = .ok (.putfield 42, 3) := dk_181 0 42 (dk_at dksX1_init_2 11 rfl rfl)
theorem dX1_init_62 : decode cX1_init 62 = .ok (.return_, 1) := dk_177 (dk_at dksX1_init_2 14 rfl rfl)
def dkwX1_net_3 : List UInt8 := [180, 0, 38, 3, 1, 83, 42, 180, 0, 38, 4, 1, 83, 42, 180, 0, 20, 180, 0, 85, 172]
abbrev dktX1_net_3 : List UInt8 := dkwX1_net_3 ++ []
def dkwX1_net_2 : List UInt8 := [44, 180, 0, 78, 181, 0, 20, 42, 44, 180, 0, 79, 181, 0, 27, 42, 180, 0, 34, 182, 0, 82, 42]
abbrev dktX1_net_2 : List UInt8 := dkwX1_net_2 ++ dktX1_net_3
def dkwX1_net_1 : List UInt8 := [89, 42, 27, 183, 0, 67, 77, 44, 182, 0, 70, 167, 0, 12, 78, 16, 254, 45, 180, 0, 75, 100, 172, 42]
abbrev dktX1_net_1 : List UInt8 := dkwX1_net_1 ++ dktX1_net_2
def dkwX1_net_0 : List UInt8 := [27, 133, 9, 42, 180, 0, 1, 133, 184, 0, 61, 154, 0, 5, 2, 172, 42, 3, 181, 0, 1, 187, 0, 65]
abbrev dktX1_net_0 : List UInt8 := dkwX1_net_0 ++ dktX1_net_1
theorem dksX1_net_0 : cX1_net.data.toList.drop 0 = dktX1_net_0 := by decide +kernel
theorem dksX1_net_1 : cX1_net.data.toList.drop 24 = dktX1_net_1 := dk_seg dksX1_net_0 24 rfl rfl
theorem dksX1_net_2 : cX1_net.data.toList.drop 48 = dktX1_net_2 := dk_seg dksX1_net_1 24 rfl rfl
theorem dksX1_net_3 : cX1_net.data.toList.drop 71 = dktX1_net_3 := dk_seg dksX1_net_2 23 rfl rfl
theorem dX1_net_0 : decode cX1_net 0 = .ok (.iload_n 1, 1) := dk_27 (dk_at dksX1_net_0 0 rfl rfl)
theorem dX1_net_1 : decode cX1_net 1 = .ok (.i2l, 1) := dk_133 (dk_at dksX1_net_0 1 rfl rfl)
theorem dX1_net_2 : decode cX1_net 2 = .ok (.lconst 0, 1) := dk_9 (dk_at dksX1_net_0 2 rfl rfl)
theorem dX1_net_3 : decode cX1_net 3 = .ok (.aload_n 0, 1) := dk_42 (dk_at dksX1_net_0 3 rfl rfl)
theorem dX1_net_4 : decode cX1_net 4 = .ok (.getfield 1, 3) := dk_180 0 1 (dk_at dksX1_net_0 4 rfl rfl)
theorem dX1_net_7 : decode cX1_net 7 = .ok (.i2l, 1) := dk_133 (dk_at dksX1_net_0 7 rfl rfl)
theorem dX1_net_8 : decode cX1_net 8 = .ok (.invokestatic 61, 3) := dk_184 0 61 (dk_at dksX1_net_0 8 rfl rfl)
theorem dX1_net_11 : decode cX1_net 11 = .ok (.ifCond .ne 5, 3) := dk_154 0 5 (dk_at dksX1_net_0 11 rfl rfl)
theorem dX1_net_14 : decode cX1_net 14 = .ok (.iconst (-1), 1) := dk_2 (dk_at dksX1_net_0 14 rfl rfl)
theorem dX1_net_15 : decode cX1_net 15 = .ok (.ireturn, 1) := dk_172 (dk_at dksX1_net_0 15 rfl rfl)
theorem dX1_net_16 : decode cX1_net 16 = .ok (.aload_n 0, 1) := dk_42 (dk_at dksX1_net_0 16 rfl rfl)
theorem dX1_net_17 : decode cX1_net 17 = .ok (.iconst 0, 1) := dk_3 (dk_at dksX1_net_0 17 rfl rfl)
theorem dX1_net_18 : decode cX1_net 18 = .ok (.putfield 1, 3) := dk_181 0 1 (dk_at dksX1_net_0 18 rfl rfl)
theorem dX1_net_21 : decode cX1_net 21 = .ok (.new 65, 3) := dk_187 0 65 (dk_at dksX1_net_0 21 rfl rfl)
theorem dX1_net_24 : decode cX1_net 24 = .ok (.dup, 1) := dk_89 (dk_at dksX1_net_1 0 rfl rfl)
theorem dX1_net_25 : decode cX1_net 25 = .ok (.aload_n 0, 1) := dk_42 (dk_at dksX1_net_1 1 rfl rfl)
theorem dX1_net_26 : decode cX1_net 26 = .ok (.iload_n 1, 1) := dk_27 (dk_at dksX1_net_1 2 rfl rfl)
theorem dX1_net_27 : decode cX1_net 27 = .ok (.invokespecial 67, 3) := dk_183 0 67 (dk_at dksX1_net_1 3 rfl rfl)
theorem dX1_net_30 : decode cX1_net 30 = .ok (.astore_n 2, 1) := dk_77 (dk_at dksX1_net_1 6 rfl rfl)
theorem dX1_net_31 : decode cX1_net 31 = .ok (.aload_n 2, 1) := dk_44 (dk_at dksX1_net_1 7 rfl rfl)
theorem dX1_net_32 : decode cX1_net 32 = .ok (.invokevirtual 70, 3) := dk_182 0 70 (dk_at dksX1_net_1 8 rfl rfl)
theorem dX1_net_35 : decode cX1_net 35 = .ok (.goto 12, 3) := dk_167 0 12 (dk_at dksX1_net_1 11 rfl rfl)
theorem dX1_net_38 : decode cX1_net 38 = .ok (.astore_n 3, 1) := dk_78 (dk_at dksX1_net_1 14 rfl rfl)
theorem dX1_net_39 : decode cX1_net 39 = .ok (.bipush (-2), 2) := dk_16 254 (dk_at dksX1_net_1 15 rfl rfl)
theorem dX1_net_41 : decode cX1_net 41 = .ok (.aload_n 3, 1) := dk_45 (dk_at dksX1_net_1 17 rfl rfl)
theorem dX1_net_42 : decode cX1_net 42 = .ok (.getfield 75, 3) := dk_180 0 75 (dk_at dksX1_net_1 18 rfl rfl)
theorem dX1_net_45 : decode cX1_net 45 = .ok (.isub, 1) := dk_100 (dk_at dksX1_net_1 21 rfl rfl)
theorem dX1_net_46 : decode cX1_net 46 = .ok (.ireturn, 1) := dk_172 (dk_at dksX1_net_1 22 rfl rfl)
theorem dX1_net_47 : decode cX1_net 47 = .ok (.aload_n 0, 1) := dk_42 (dk_at dksX1_net_1 23 rfl rfl)
theorem dX1_net_48 : decode cX1_net 48 = .ok (.aload_n 2, 1) := dk_44 (dk_at dksX1_net_2 0 rfl rfl)
theorem dX1_net_49 : decode cX1_net 49 = .ok (.getfield 78, 3) := dk_180 0 78 (dk_at dksX1_net_2 1 rfl rfl)
theorem dX1_net_52 : decode cX1_net 52 = .ok (.putfield 20, 3) := dk_181 0 20 (dk_at dksX1_net_2 4 rfl rfl)
theorem dX1_net_55 : decode cX1_net 55 = .ok (.aload_n 0, 1) := dk_42 (dk_at dksX1_net_2 7 rfl rfl)
theorem dX1_net_56 : decode cX1_net 56 = .ok (.aload_n 2, 1) := dk_44 (dk_at dksX1_net_2 8 rfl rfl)
theorem dX1_net_57 : decode cX1_net 57 = .ok (.getfield 79, 3) := dk_180 0 79 (dk_at dksX1_net_2 9 rfl rfl)
theorem dX1_net_60 : decode cX1_net 60 = .ok (.putfield 27, 3) := dk_181 0 27 (dk_at dksX1_net_2 12 rfl rfl)
theorem dX1_net_63 : decode cX1_net 63 = .ok (.aload_n 0, 1) := dk_42 (dk_at dksX1_net_2 15 rfl rfl)
theorem dX1_net_64 : decode cX1_net 64 = .ok (.getfield 34, 3) := dk_180 0 34 (dk_at dksX1_net_2 16 rfl rfl)
theorem dX1_net_67 : decode cX1_net 67 = .ok (.invokevirtual 82, 3) := dk_182 0 82 (dk_at dksX1_net_2 19 rfl rfl)
theorem dX1_net_70 : decode cX1_net 70 = .ok (.aload_n 0, 1) := dk_42 (dk_at dksX1_net_2 22 rfl rfl)
theorem dX1_net_71 : decode cX1_net 71 = .ok (.getfield 38, 3) := dk_180 0 38 (dk_at dksX1_net_3 0 rfl rfl)
theorem dX1_net_74 : decode cX1_net 74 = .ok (.iconst 0, 1) := dk_3 (dk_at dksX1_net_3 3 rfl rfl)
theorem dX1_net_75 : decode cX1_net 75 = .ok (.aconst_null, 1) := dk_1 (dk_at dksX1_net_3 4 rfl rfl)
theorem dX1_net_76 : decode cX1_net 76 = .ok (.aastore, 1) := dk_83 (dk_at dksX1_net_3 5 rfl rfl)
theorem dX1_net_77 : decode cX1_net 77 = .ok (.aload_n 0, 1) := dk_42 (dk_at dksX1_net_3 6 rfl rfl)
theorem dX1_net_78 : decode cX1_net 78 = .ok (.getfield 38, 3) := dk_180 0 38 (dk_at dksX1_net_3 7 rfl rfl)
theorem dX1_net_81 : decode cX1_net 81 = .ok (.iconst 1, 1) := dk_4 (dk_at dksX1_net_3 10 rfl rfl)
theorem dX1_net_82 : decode cX1_net 82 = .ok (.aconst_null, 1) := dk_1 (dk_at dksX1_net_3 11 rfl rfl)
theorem dX1_net_83 : decode cX1_net 83 = .ok (.aastore, 1) := dk_83 (dk_at dksX1_net_3 12 rfl rfl)
theorem dX1_net_84 : decode cX1_net 84 = .ok (.aload_n 0, 1) := dk_42 (dk_at dksX1_net_3 13 rfl rfl)
theorem dX1_net_85 : decode cX1_net 85 = .ok (.getfield 20, 3) := dk_180 0 20 (dk_at dksX1_net_3 14 rfl rfl)
theorem dX1_net_88 : decode cX1_net 88 = .ok (.getfield 85, 3) := dk_180 0 85 (dk_at dksX1_net_3 17 rfl rfl)
theorem dX1_net_91 : decode cX1_net 91 = .ok (.ireturn, 1) := dk_172 (dk_at dksX1_net_3 20 rfl rfl)
def dkwX1_within_0 : List UInt8 := [30, 32, 148, 155, 0, 14, 30, 22, 4, 148, 157, 0, 7, 4, 167, 0, 4, 3, 172]
abbrev dktX1_within_0 : List UInt8 := dkwX1_within_0 ++ []
theorem dksX1_within_0 : cX1_within.data.toList.drop 0 = dktX1_within_0 := by decide +kernel
theorem dX1_within_0 : decode cX1_within 0 = .ok (.lload_n 0, 1) := dk_30 (dk_at dksX1_within_0 0 rfl rfl)
theorem dX1_within_1 : decode cX1_within 1 = .ok (.lload_n 2, 1) := dk_32 (dk_at dksX1_within_0 1 rfl rfl)
theorem dX1_within_2 : decode cX1_within 2 = .ok (.lcmp, 1) := dk_148 (dk_at dksX1_within_0 2 rfl rfl)
theorem dX1_within_3 : decode cX1_within 3 = .ok (.ifCond .lt 14, 3) := dk_155 0 14 (dk_at dksX1_within_0 3 rfl rfl)
theorem dX1_within_6 : decode cX1_within 6 = .ok (.lload_n 0, 1) := dk_30 (dk_at dksX1_within_0 6 rfl rfl)
theorem dX1_within_7 : decode cX1_within 7 = .ok (.lload 4, 2) := dk_22 4 (dk_at dksX1_within_0 7 rfl rfl)
theorem dX1_within_9 : decode cX1_within 9 = .ok (.lcmp, 1) := dk_148 (dk_at dksX1_within_0 9 rfl rfl)
theorem dX1_within_10 : decode cX1_within 10 = .ok (.ifCond .gt 7, 3) := dk_157 0 7 (dk_at dksX1_within_0 10 rfl rfl)
theorem dX1_within_13 : decode cX1_within 13 = .ok (.iconst 1, 1) := dk_4 (dk_at dksX1_within_0 13 rfl rfl)
theorem dX1_within_14 : decode cX1_within 14 = .ok (.goto 4, 3) := dk_167 0 4 (dk_at dksX1_within_0 14 rfl rfl)
theorem dX1_within_17 : decode cX1_within 17 = .ok (.iconst 0, 1) := dk_3 (dk_at dksX1_within_0 17 rfl rfl)
theorem dX1_within_18 : decode cX1_within 18 = .ok (.ireturn, 1) := dk_172 (dk_at dksX1_within_0 18 rfl rfl)
def dkwX1_isPrime_1 : List UInt8 := [172]
abbrev dktX1_isPrime_1 : List UInt8 := dkwX1_isPrime_1 ++ []
def dkwX1_isPrime_0 : List UInt8 := [5, 60, 27, 27, 104, 26, 163, 0, 17, 26, 27, 112, 154, 0, 5, 3, 172, 132, 1, 1, 167, 255, 238, 4]
abbrev dktX1_isPrime_0 : List UInt8 := dkwX1_isPrime_0 ++ dktX1_isPrime_1
theorem dksX1_isPrime_0 : cX1_isPrime.data.toList.drop 0 = dktX1_isPrime_0 := by decide +kernel
theorem dksX1_isPrime_1 : cX1_isPrime.data.toList.drop 24 = dktX1_isPrime_1 := dk_seg dksX1_isPrime_0 24 rfl rfl
theorem dX1_isPrime_0 : decode cX1_isPrime 0 = .ok (.iconst 2, 1) := dk_5 (dk_at dksX1_isPrime_0 0 rfl rfl)
theorem dX1_isPrime_1 : decode cX1_isPrime 1 = .ok (.istore_n 1, 1) := dk_60 (dk_at dksX1_isPrime_0 1 rfl rfl)
theorem dX1_isPrime_2 : decode cX1_isPrime 2 = .ok (.iload_n 1, 1) := dk_27 (dk_at dksX1_isPrime_0 2 rfl rfl)
theorem dX1_isPrime_3 : decode cX1_isPrime 3 = .ok (.iload_n 1, 1) := dk_27 (dk_at dksX1_isPrime_0 3 rfl rfl)
theorem dX1_isPrime_4 : decode cX1_isPrime 4 = .ok (.imul, 1) := dk_104 (dk_at dksX1_isPrime_0 4 rfl rfl)
theorem dX1_isPrime_5 : decode cX1_isPrime 5 = .ok (.iload_n 0, 1) := dk_26 (dk_at dksX1_isPrime_0 5 rfl rfl)
theorem dX1_isPrime_6 : decode cX1_isPrime 6 = .ok (.if_icmp .gt 17, 3) := dk_163 0 17 (dk_at dksX1_isPrime_0 6 rfl rfl)
theorem dX1_isPrime_9 : decode cX1_isPrime 9 = .ok (.iload_n 0, 1) := dk_26 (dk_at dksX1_isPrime_0 9 rfl rfl)
theorem dX1_isPrime_10 : decode cX1_isPrime 10 = .ok (.iload_n 1, 1) := dk_27 (dk_at dksX1_isPrime_0 10 rfl rfl)
theorem dX1_isPrime_11 : decode cX1_isPrime 11 = .ok (.irem, 1) := dk_112 (dk_at dksX1_isPrime_0 11 rfl rfl)
theorem dX1_isPrime_12 : decode cX1_isPrime 12 = .ok (.ifCond .ne 5, 3) := dk_154 0 5 (dk_at dksX1_isPrime_0 12 rfl rfl)
theorem dX1_isPrime_15 : decode cX1_isPrime 15 = .ok (.iconst 0, 1) := dk_3 (dk_at dksX1_isPrime_0 15 rfl rfl)
theorem dX1_isPrime_16 : decode cX1_isPrime 16 = .ok (.ireturn, 1) := dk_172 (dk_at dksX1_isPrime_0 16 rfl rfl)
theorem dX1_isPrime_17 : decode cX1_isPrime 17 = .ok (.iinc 1 1, 3) := dk_132 1 1 (dk_at dksX1_isPrime_0 17 rfl rfl)
theorem dX1_isPrime_20 : decode cX1_isPrime 20 = .ok (.goto (-18), 3) := dk_167 255 238 (dk_at dksX1_isPrime_0 20 rfl rfl)
theorem dX1_isPrime_23 : decode cX1_isPrime 23 = .ok (.iconst 1, 1) := dk_4 (dk_at dksX1_isPrime_0 23 rfl rfl)
theorem dX1_isPrime_24 : decode cX1_isPrime 24 = .ok (.ireturn, 1) := dk_172 (dk_at dksX1_isPrime_1 0 rfl rfl)
def dkwX1_has_0 : List UInt8 := [26, 27, 122, 4, 126, 4, 160, 0, 7, 4, 167, 0, 4, 3, 172]
abbrev dktX1_has_0 : List UInt8 := dkwX1_has_0 ++ []
theorem dksX1_has_0 : cX1_has.data.toList.drop 0 = dktX1_has_0 := by decide +kernel
theorem dX1_has_0 : decode cX1_has 0 = .ok (.iload_n 0, 1) := dk_26 (dk_at dksX1_has_0 0 rfl rfl)
theorem dX1_has_1 : decode cX1_has 1 = .ok (.iload_n 1, 1) := dk_27 (dk_at dksX1_has_0 1 rfl rfl)
theorem dX1_has_2 : decode cX1_has 2 = .ok (.ishr, 1) := dk_122 (dk_at dksX1_has_0 2 rfl rfl)
theorem dX1_has_3 : decode cX1_has 3 = .ok (.iconst 1, 1) := dk_4 (dk_at dksX1_has_0 3 rfl rfl)
theorem dX1_has_4 : decode cX1_has 4 = .ok (.iand, 1) := dk_126 (dk_at dksX1_has_0 4 rfl rfl)
theorem dX1_has_5 : decode cX1_has 5 = .ok (.iconst 1, 1) := dk_4 (dk_at dksX1_has_0 5 rfl rfl)
theorem dX1_has_6 : decode cX1_has 6 = .ok (.if_icmp .ne 7, 3) := dk_160 0 7 (dk_at dksX1_has_0 6 rfl rfl)
theorem dX1_has_9 : decode cX1_has 9 = .ok (.iconst 1, 1) := dk_4 (dk_at dksX1_has_0 9 rfl rfl)
theorem dX1_has_10 : decode cX1_has 10 = .ok (.goto 4, 3) := dk_167 0 4 (dk_at dksX1_has_0 10 rfl rfl)
theorem dX1_has_13 : decode cX1_has 13 = .ok (.iconst 0, 1) := dk_3 (dk_at dksX1_has_0 13 rfl rfl)
theorem dX1_has_14 : decode cX1_has 14 = .ok (.ireturn, 1) := dk_172 (dk_at dksX1_has_0 14 rfl rfl)
def dkwX1_table_2 : List UInt8 := [180, 0, 124, 28, 46, 167, 0, 5, 16, 254, 172]
abbrev dktX1_table_2 : List UInt8 := dkwX1_table_2 ++ []
def dkwX1_table_1 : List UInt8 := [180, 0, 121, 167, 0, 31, 28, 133, 9, 45, 180, 0, 124, 190, 4, 100, 133, 184, 0, 61, 153, 0, 12, 45]
abbrev dktX1_table_1 : List UInt8 := dkwX1_table_1 ++ dktX1_table_2
def dkwX1_table_0 : List UInt8 := [42, 27, 182, 0, 113, 154, 0, 6, 16, 254, 172, 42, 27, 182, 0, 117, 78, 28, 2, 160, 0, 10, 45]
abbrev dktX1_table_0 : List UInt8 := dkwX1_table_0 ++ dktX1_table_1
theorem dksX1_table_0 : cX1_table.data.toList.drop 0 = dktX1_table_0 := by decide +kernel
theorem dksX1_table_1 : cX1_table.data.toList.drop 23 = dktX1_table_1 := dk_seg dksX1_table_0 23 rfl rfl
theorem dksX1_table_2 : cX1_table.data.toList.drop 47 = dktX1_table_2 := dk_seg dksX1_table_1 24 rfl rfl
theorem dX1_table_0 : decode cX1_table 0 = .ok (.aload_n 0, 1) := dk_42 (dk_at dksX1_table_0 0 rfl rfl)
theorem dX1_table_1 : decode cX1_table 1 = .ok (.iload_n 1, 1) := dk_27 (dk_at dksX1_table_0 1 rfl rfl)
theorem dX1_table_2 : decode cX1_table 2 = .ok (.invokevirtual 113, 3) := dk_182 0 113 (dk_at dksX1_table_0 2 rfl rfl)
theorem dX1_table_5 : decode cX1_table 5 = .ok (.ifCond .ne 6, 3) := dk_154 0 6 (dk_at dksX1_table_0 5 rfl rfl)
theorem dX1_table_8 : decode cX1_table 8 = .ok (.bipush (-2), 2) := dk_16 254 (dk_at dksX1_table_0 8 rfl rfl)
theorem dX1_table_10 : decode cX1_table 10 = .ok (.ireturn, 1) := dk_172 (dk_at dksX1_table_0 10 rfl rfl)
theorem dX1_table_11 : decode cX1_table 11 = .ok (.aload_n 0, 1) := dk_42 (dk_at dksX1_table_0 11 rfl rfl)
theorem dX1_table_12 : decode cX1_table 12 = .ok (.iload_n 1, 1) := dk_27 (dk_at dksX1_table_0 12 rfl rfl)
theorem dX1_table_13 : decode cX1_table 13 = .ok (.invokevirtual 117, 3) := dk_182 0 117 (dk_at dksX1_table_0 13 rfl rfl)
theorem dX1_table_16 : decode cX1_table 16 = .ok (.astore_n 3, 1) := dk_78 (dk_at dksX1_table_0 16 rfl rfl)
theorem dX1_table_17 : decode cX1_table 17 = .ok (.iload_n 2, 1) := dk_28 (dk_at dksX1_table_0 17 rfl rfl)
theorem dX1_table_18 : decode cX1_table 18 = .ok (.iconst (-1), 1) := dk_2 (dk_at dksX1_table_0 18 rfl rfl)
theorem dX1_table_19 : decode cX1_table 19 = .ok (.if_icmp .ne 10, 3) := dk_160 0 10 (dk_at dksX1_table_0 19 rfl rfl)
theorem dX1_table_22 : decode cX1_table 22 = .ok (.aload_n 3, 1) := dk_45 (dk_at dksX1_table_0 22 rfl rfl)
theorem dX1_table_23 : decode cX1_table 23 = .ok (.getfield 121, 3) := dk_180 0 121 (dk_at dksX1_table_1 0 rfl rfl)
theorem dX1_table_26 : decode cX1_table 26 = .ok (.goto 31, 3) := dk_167 0 31 (dk_at dksX1_table_1 3 rfl rfl)
theorem dX1_table_29 : decode cX1_table 29 = .ok (.iload_n 2, 1) := dk_28 (dk_at dksX1_table_1 6 rfl rfl)
theorem dX1_table_30 : decode cX1_table 30 = .ok (.i2l, 1) := dk_133 (dk_at dksX1_table_1 7 rfl rfl)
theorem dX1_table_31 : decode cX1_table 31 = .ok (.lconst 0, 1) := dk_9 (dk_at dksX1_table_1 8 rfl rfl)
theorem dX1_table_32 : decode cX1_table 32 = .ok (.aload_n 3, 1) := dk_45 (dk_at dksX1_table_1 9 rfl rfl)
theorem dX1_table_33 : decode cX1_table 33 = .ok (.getfield 124, 3) := dk_180 0 124 (dk_at dksX1_table_1 10 rfl rfl)
theorem dX1_table_36 : decode cX1_table 36 = .ok (.arraylength, 1) := dk_190 (dk_at dksX1_table_1 13 rfl rfl)
theorem dX1_table_37 : decode cX1_table 37 = .ok (.iconst 1, 1) := dk_4 (dk_at dksX1_table_1 14 rfl rfl)
theorem dX1_table_38 : decode cX1_table 38 = .ok (.isub, 1) := dk_100 (dk_at dksX1_table_1 15 rfl rfl)
theorem dX1_table_39 : decode cX1_table 39 = .ok (.i2l, 1) := dk_133 (dk_at dksX1_table_1 16 rfl rfl)
theorem dX1_table_40 : decode cX1_table 40 = .ok (.invokestatic 61, 3) := dk_184 0 61 (dk_at dksX1_table_1 17 rfl rfl)
theorem dX1_table_43 : decode cX1_table 43 = .ok (.ifCond .eq 12, 3) := dk_153 0 12 (dk_at dksX1_table_1 20 rfl rfl)
theorem dX1_table_46 : decode cX1_table 46 = .ok (.aload_n 3, 1) := dk_45 (dk_at dksX1_table_1 23 rfl rfl)
theorem dX1_table_47 : decode cX1_table 47 = .ok (.getfield 124, 3) := dk_180 0 124 (dk_at dksX1_table_2 0 rfl rfl)
theorem dX1_table_50 : decode cX1_table 50 = .ok (.iload_n 2, 1) := dk_28 (dk_at dksX1_table_2 3 rfl rfl)
theorem dX1_table_51 : decode cX1_table 51 = .ok (.iaload, 1) := dk_46 (dk_at dksX1_table_2 4 rfl rfl)
theorem dX1_table_52 : decode cX1_table 52 = .ok (.goto 5, 3) := dk_167 0 5 (dk_at dksX1_table_2 5 rfl rfl)
theorem dX1_table_55 : decode cX1_table 55 = .ok (.bipush (-2), 2) := dk_16 254 (dk_at dksX1_table_2 8 rfl rfl)
theorem dX1_table_57 : decode cX1_table 57 = .ok (.ireturn, 1) := dk_172 (dk_at dksX1_table_2 10 rfl rfl)
def dkwX1_isTable_0 : List UInt8 := [42, 180, 0, 20, 180, 0, 88, 27, 184, 0, 92, 172]
abbrev dktX1_isTable_0 : List UInt8 := dkwX1_isTable_0 ++ []
theorem dksX1_isTable_0 : cX1_isTable.data.toList.drop 0 = dktX1_isTable_0 := by decide +kernel
theorem dX1_isTable_0 : decode cX1_isTable 0 = .ok (.aload_n 0, 1) := dk_42 (dk_at dksX1_isTable_0 0 rfl rfl)
theorem dX1_isTable_1 : decode cX1_isTable 1 = .ok (.getfield 20, 3) := dk_180 0 20 (dk_at dksX1_isTable_0 1 rfl rfl)
theorem dX1_isTable_4 : decode cX1_isTable 4 = .ok (.getfield 88, 3) := dk_180 0 88 (dk_at dksX1_isTable_0 4 rfl rfl)
theorem dX1_isTable_7 : decode cX1_isTable 7 = .ok (.iload_n 1, 1) := dk_27 (dk_at dksX1_isTable_0 7 rfl rfl)
theorem dX1_isTable_8 : decode cX1_isTable 8 = .ok (.invokestatic 92, 3) := dk_184 0 92 (dk_at dksX1_isTable_0 8 rfl rfl)
theorem dX1_isTable_11 : decode cX1_isTable 11 = .ok (.ireturn, 1) := dk_172 (dk_at dksX1_isTable_0 11 rfl rfl)
def dkwX1_at_0 : List UInt8 := [42, 180, 0, 20, 180, 0, 88, 27, 182, 0, 107, 192, 0, 111, 176]
abbrev dktX1_at_0 : List UInt8 := dkwX1_at_0 ++ []
theorem dksX1_at_0 : cX1_at.data.toList.drop 0 = dktX1_at_0 := by decide +kernel
theorem dX1_at_0 : decode cX1_at 0 = .ok (.aload_n 0, 1) := dk_42 (dk_at dksX1_at_0 0 rfl rfl)
theorem dX1_at_1 : decode cX1_at 1 = .ok (.getfield 20, 3) := dk_180 0 20 (dk_at dksX1_at_0 1 rfl rfl)
theorem dX1_at_4 : decode cX1_at 4 = .ok (.getfield 88, 3) := dk_180 0 88 (dk_at dksX1_at_0 4 rfl rfl)
theorem dX1_at_7 : decode cX1_at 7 = .ok (.iload_n 1, 1) := dk_27 (dk_at dksX1_at_0 7 rfl rfl)
theorem dX1_at_8 : decode cX1_at 8 = .ok (.invokevirtual 107, 3) := dk_182 0 107 (dk_at dksX1_at_0 8 rfl rfl)
theorem dX1_at_11 : decode cX1_at 11 = .ok (.checkcast 111, 3) := dk_192 0 111 (dk_at dksX1_at_0 11 rfl rfl)
theorem dX1_at_14 : decode cX1_at 14 = .ok (.areturn, 1) := dk_176 (dk_at dksX1_at_0 14 rfl rfl)
def dkwX1_parity_1 : List UInt8 := [190, 184, 0, 130, 167, 0, 4, 2, 172]
abbrev dktX1_parity_1 : List UInt8 := dkwX1_parity_1 ++ []
def dkwX1_parity_0 : List UInt8 := [42, 27, 182, 0, 113, 153, 0, 26, 42, 27, 182, 0, 117, 180, 0, 124, 42, 27, 182, 0, 117, 180, 0, 124]
abbrev dktX1_parity_0 : List UInt8 := dkwX1_parity_0 ++ dktX1_parity_1
theorem dksX1_parity_0 : cX1_parity.data.toList.drop 0 = dktX1_parity_0 := by decide +kernel
theorem dksX1_parity_1 : cX1_parity.data.toList.drop 24 = dktX1_parity_1 := dk_seg dksX1_parity_0 24 rfl rfl
theorem dX1_parity_0 : decode cX1_parity 0 = .ok (.aload_n 0, 1) := dk_42 (dk_at dksX1_parity_0 0 rfl rfl)
theorem dX1_parity_1 : decode cX1_parity 1 = .ok (.iload_n 1, 1) := dk_27 (dk_at dksX1_parity_0 1 rfl rfl)
theorem dX1_parity_2 : decode cX1_parity 2 = .ok (.invokevirtual 113, 3) := dk_182 0 113 (dk_at dksX1_parity_0 2 rfl rfl)
theorem dX1_parity_5 : decode cX1_parity 5 = .ok (.ifCond .eq 26, 3) := dk_153 0 26 (dk_at dksX1_parity_0 5 rfl rfl)
theorem dX1_parity_8 : decode cX1_parity 8 = .ok (.aload_n 0, 1) := dk_42 (dk_at dksX1_parity_0 8 rfl rfl)
theorem dX1_parity_9 : decode cX1_parity 9 = .ok (.iload_n 1, 1) := dk_27 (dk_at dksX1_parity_0 9 rfl rfl)
theorem dX1_parity_10 : decode cX1_parity 10 = .ok (.invokevirtual 117, 3) := dk_182 0 117 (dk_at dksX1_parity_0 10 rfl rfl)
theorem dX1_parity_13 : decode cX1_parity 13 = .ok (.getfield 124, 3) := dk_180 0 124 (dk_at dksX1_parity_0 13 rfl rfl)
theorem dX1_parity_16 : decode cX1_parity 16 = .ok (.aload_n 0, 1) := dk_42 (dk_at dksX1_parity_0 16 rfl rfl)
theorem dX1_parity_17 : decode cX1_parity 17 = .ok (.iload_n 1, 1) := dk_27 (dk_at dksX1_parity_0 17 rfl rfl)
theorem dX1_parity_18 : decode cX1_parity 18 = .ok (.invokevirtual 117, 3) := dk_182 0 117 (dk_at dksX1_parity_0 18 rfl rfl)
theorem dX1_parity_21 : decode cX1_parity 21 = .ok (.getfield 124, 3) := dk_180 0 124 (dk_at dksX1_parity_0 21 rfl rfl)
theorem dX1_parity_24 : decode cX1_parity 24 = .ok (.arraylength, 1) := dk_190 (dk_at dksX1_parity_1 0 rfl rfl)
theorem dX1_parity_25 : decode cX1_parity 25 = .ok (.invokestatic 130, 3) := dk_184 0 130 (dk_at dksX1_parity_1 1 rfl rfl)
theorem dX1_parity_28 : decode cX1_parity 28 = .ok (.goto 4, 3) := dk_167 0 4 (dk_at dksX1_parity_1 4 rfl rfl)
theorem dX1_parity_31 : decode cX1_parity 31 = .ok (.iconst (-1), 1) := dk_2 (dk_at dksX1_parity_1 7 rfl rfl)
theorem dX1_parity_32 : decode cX1_parity 32 = .ok (.ireturn, 1) := dk_172 (dk_at dksX1_parity_1 8 rfl rfl)
def dkwX1_parityOf_2 : List UInt8 := [51, 153, 0, 7, 6, 167, 0, 18, 3, 167, 0, 14, 44, 4, 51, 153, 0, 7, 4, 167, 0, 4, 5, 172]
abbrev dktX1_parityOf_2 : List UInt8 := dkwX1_parityOf_2 ++ []
def dkwX1_parityOf_1 : List UInt8 := [153, 0, 7, 4, 167, 0, 4, 3, 128, 84, 132, 3, 1, 167, 255, 225, 44, 3, 51, 153, 0, 17, 44, 4]
abbrev dktX1_parityOf_1 : List UInt8 := dkwX1_parityOf_1 ++ dktX1_parityOf_2
def dkwX1_parityOf_0 : List UInt8 := [5, 188, 4, 77, 3, 62, 29, 27, 162, 0, 32, 44, 178, 0, 127, 29, 46, 5, 112, 92, 51, 42, 29, 46]
abbrev dktX1_parityOf_0 : List UInt8 := dkwX1_parityOf_0 ++ dktX1_parityOf_1
theorem dksX1_parityOf_0 : cX1_parityOf.data.toList.drop 0 = dktX1_parityOf_0 := by decide +kernel
theorem dksX1_parityOf_1 : cX1_parityOf.data.toList.drop 24 = dktX1_parityOf_1 := dk_seg dksX1_parityOf_0 24 rfl rfl
theorem dksX1_parityOf_2 : cX1_parityOf.data.toList.drop 48 = dktX1_parityOf_2 := dk_seg dksX1_parityOf_1 24 rfl rfl
theorem dX1_parityOf_0 : decode cX1_parityOf 0 = .ok (.iconst 2, 1) := dk_5 (dk_at dksX1_parityOf_0 0 rfl rfl)
theorem dX1_parityOf_1 : decode cX1_parityOf 1 = .ok (.newarray .boolean, 2) := dk_188_4 (dk_at dksX1_parityOf_0 1 rfl rfl)
theorem dX1_parityOf_3 : decode cX1_parityOf 3 = .ok (.astore_n 2, 1) := dk_77 (dk_at dksX1_parityOf_0 3 rfl rfl)
theorem dX1_parityOf_4 : decode cX1_parityOf 4 = .ok (.iconst 0, 1) := dk_3 (dk_at dksX1_parityOf_0 4 rfl rfl)
theorem dX1_parityOf_5 : decode cX1_parityOf 5 = .ok (.istore_n 3, 1) := dk_62 (dk_at dksX1_parityOf_0 5 rfl rfl)
theorem dX1_parityOf_6 : decode cX1_parityOf 6 = .ok (.iload_n 3, 1) := dk_29 (dk_at dksX1_parityOf_0 6 rfl rfl)
theorem dX1_parityOf_7 : decode cX1_parityOf 7 = .ok (.iload_n 1, 1) := dk_27 (dk_at dksX1_parityOf_0 7 rfl rfl)
theorem dX1_parityOf_8 : decode cX1_parityOf 8 = .ok (.if_icmp .ge 32, 3) := dk_162 0 32 (dk_at dksX1_parityOf_0 8 rfl rfl)
theorem dX1_parityOf_11 : decode cX1_parityOf 11 = .ok (.aload_n 2, 1) := dk_44 (dk_at dksX1_parityOf_0 11 rfl rfl)
theorem dX1_parityOf_12 : decode cX1_parityOf 12 = .ok (.getstatic 127, 3) := dk_178 0 127 (dk_at dksX1_parityOf_0 12 rfl rfl)
theorem dX1_parityOf_15 : decode cX1_parityOf 15 = .ok (.iload_n 3, 1) := dk_29 (dk_at dksX1_parityOf_0 15 rfl rfl)
theorem dX1_parityOf_16 : decode cX1_parityOf 16 = .ok (.iaload, 1) := dk_46 (dk_at dksX1_parityOf_0 16 rfl rfl)
theorem dX1_parityOf_17 : decode cX1_parityOf 17 = .ok (.iconst 2, 1) := dk_5 (dk_at dksX1_parityOf_0 17 rfl rfl)
theorem dX1_parityOf_18 : decode cX1_parityOf 18 = .ok (.irem, 1) := dk_112 (dk_at dksX1_parityOf_0 18 rfl rfl)
theorem dX1_parityOf_19 : decode cX1_parityOf 19 = .ok (.dup2, 1) := dk_92 (dk_at dksX1_parityOf_0 19 rfl rfl)
theorem dX1_parityOf_20 : decode cX1_parityOf 20 = .ok (.baload, 1) := dk_51 (dk_at dksX1_parityOf_0 20 rfl rfl)
theorem dX1_parityOf_21 : decode cX1_parityOf 21 = .ok (.aload_n 0, 1) := dk_42 (dk_at dksX1_parityOf_0 21 rfl rfl)
theorem dX1_parityOf_22 : decode cX1_parityOf 22 = .ok (.iload_n 3, 1) := dk_29 (dk_at dksX1_parityOf_0 22 rfl rfl)
theorem dX1_parityOf_23 : decode cX1_parityOf 23 = .ok (.iaload, 1) := dk_46 (dk_at dksX1_parityOf_0 23 rfl rfl)
theorem dX1_parityOf_24 : decode cX1_parityOf 24 = .ok (.ifCond .eq 7, 3) := dk_153 0 7 (dk_at dksX1_parityOf_1 0 rfl rfl)
theorem dX1_parityOf_27 : decode cX1_parityOf 27 = .ok (.iconst 1, 1) := dk_4 (dk_at dksX1_parityOf_1 3 rfl rfl)
theorem dX1_parityOf_28 : decode cX1_parityOf 28 = .ok (.goto 4, 3) := dk_167 0 4 (dk_at dksX1_parityOf_1 4 rfl rfl)
theorem dX1_parityOf_31 : decode cX1_parityOf 31 = .ok (.iconst 0, 1) := dk_3 (dk_at dksX1_parityOf_1 7 rfl rfl)
theorem dX1_parityOf_32 : decode cX1_parityOf 32 = .ok (.ior, 1) := dk_128 (dk_at dksX1_parityOf_1 8 rfl rfl)
theorem dX1_parityOf_33 : decode cX1_parityOf 33 = .ok (.bastore, 1) := dk_84 (dk_at dksX1_parityOf_1 9 rfl rfl)
theorem dX1_parityOf_34 : decode cX1_parityOf 34 = .ok (.iinc 3 1, 3) := dk_132 3 1 (dk_at dksX1_parityOf_1 10 rfl rfl)
theorem dX1_parityOf_37 : decode cX1_parityOf 37 = .ok (.goto (-31), 3) := dk_167 255 225 (dk_at dksX1_parityOf_1 13 rfl rfl)
theorem dX1_parityOf_40 : decode cX1_parityOf 40 = .ok (.aload_n 2, 1) := dk_44 (dk_at dksX1_parityOf_1 16 rfl rfl)
theorem dX1_parityOf_41 : decode cX1_parityOf 41 = .ok (.iconst 0, 1) := dk_3 (dk_at dksX1_parityOf_1 17 rfl rfl)
theorem dX1_parityOf_42 : decode cX1_parityOf 42 = .ok (.baload, 1) := dk_51 (dk_at dksX1_parityOf_1 18 rfl rfl)
theorem dX1_parityOf_43 : decode cX1_parityOf 43 = .ok (.ifCond .eq 17, 3) := dk_153 0 17 (dk_at dksX1_parityOf_1 19 rfl rfl)
theorem dX1_parityOf_46 : decode cX1_parityOf 46 = .ok (.aload_n 2, 1) := dk_44 (dk_at dksX1_parityOf_1 22 rfl rfl)
theorem dX1_parityOf_47 : decode cX1_parityOf 47 = .ok (.iconst 1, 1) := dk_4 (dk_at dksX1_parityOf_1 23 rfl rfl)
theorem dX1_parityOf_48 : decode cX1_parityOf 48 = .ok (.baload, 1) := dk_51 (dk_at dksX1_parityOf_2 0 rfl rfl)
theorem dX1_parityOf_49 : decode cX1_parityOf 49 = .ok (.ifCond .eq 7, 3) := dk_153 0 7 (dk_at dksX1_parityOf_2 1 rfl rfl)
theorem dX1_parityOf_52 : decode cX1_parityOf 52 = .ok (.iconst 3, 1) := dk_6 (dk_at dksX1_parityOf_2 4 rfl rfl)
theorem dX1_parityOf_53 : decode cX1_parityOf 53 = .ok (.goto 18, 3) := dk_167 0 18 (dk_at dksX1_parityOf_2 5 rfl rfl)
theorem dX1_parityOf_56 : decode cX1_parityOf 56 = .ok (.iconst 0, 1) := dk_3 (dk_at dksX1_parityOf_2 8 rfl rfl)
theorem dX1_parityOf_57 : decode cX1_parityOf 57 = .ok (.goto 14, 3) := dk_167 0 14 (dk_at dksX1_parityOf_2 9 rfl rfl)
theorem dX1_parityOf_60 : decode cX1_parityOf 60 = .ok (.aload_n 2, 1) := dk_44 (dk_at dksX1_parityOf_2 12 rfl rfl)
theorem dX1_parityOf_61 : decode cX1_parityOf 61 = .ok (.iconst 1, 1) := dk_4 (dk_at dksX1_parityOf_2 13 rfl rfl)
theorem dX1_parityOf_62 : decode cX1_parityOf 62 = .ok (.baload, 1) := dk_51 (dk_at dksX1_parityOf_2 14 rfl rfl)
theorem dX1_parityOf_63 : decode cX1_parityOf 63 = .ok (.ifCond .eq 7, 3) := dk_153 0 7 (dk_at dksX1_parityOf_2 15 rfl rfl)
theorem dX1_parityOf_66 : decode cX1_parityOf 66 = .ok (.iconst 1, 1) := dk_4 (dk_at dksX1_parityOf_2 18 rfl rfl)
theorem dX1_parityOf_67 : decode cX1_parityOf 67 = .ok (.goto 4, 3) := dk_167 0 4 (dk_at dksX1_parityOf_2 19 rfl rfl)
theorem dX1_parityOf_70 : decode cX1_parityOf 70 = .ok (.iconst 2, 1) := dk_5 (dk_at dksX1_parityOf_2 22 rfl rfl)
theorem dX1_parityOf_71 : decode cX1_parityOf 71 = .ok (.ireturn, 1) := dk_172 (dk_at dksX1_parityOf_2 23 rfl rfl)
def dkwX1_identity_1 : List UInt8 := [16, 254, 167, 0, 16, 42, 42, 27, 182, 0, 117, 180, 0, 124, 28, 182, 0, 138, 172]
abbrev dktX1_identity_1 : List UInt8 := dkwX1_identity_1 ++ []
def dkwX1_identity_0 : List UInt8 := [42, 27, 182, 0, 113, 154, 0, 7, 2, 167, 0, 33, 42, 27, 182, 0, 117, 180, 0, 121, 7, 162, 0, 8]
abbrev dktX1_identity_0 : List UInt8 := dkwX1_identity_0 ++ dktX1_identity_1
theorem dksX1_identity_0 : cX1_identity.data.toList.drop 0 = dktX1_identity_0 := by decide +kernel
theorem dksX1_identity_1 : cX1_identity.data.toList.drop 24 = dktX1_identity_1 := dk_seg dksX1_identity_0 24 rfl rfl
theorem dX1_identity_0 : decode cX1_identity 0 = .ok (.aload_n 0, 1) := dk_42 (dk_at dksX1_identity_0 0 rfl rfl)
theorem dX1_identity_1 : decode cX1_identity 1 = .ok (.iload_n 1, 1) := dk_27 (dk_at dksX1_identity_0 1 rfl rfl)
theorem dX1_identity_2 : decode cX1_identity 2 = .ok (.invokevirtual 113, 3) := dk_182 0 113 (dk_at dksX1_identity_0 2 rfl rfl)
theorem dX1_identity_5 : decode cX1_identity 5 = .ok (.ifCond .ne 7, 3) := dk_154 0 7 (dk_at dksX1_identity_0 5 rfl rfl)
theorem dX1_identity_8 : decode cX1_identity 8 = .ok (.iconst (-1), 1) := dk_2 (dk_at dksX1_identity_0 8 rfl rfl)
theorem dX1_identity_9 : decode cX1_identity 9 = .ok (.goto 33, 3) := dk_167 0 33 (dk_at dksX1_identity_0 9 rfl rfl)
theorem dX1_identity_12 : decode cX1_identity 12 = .ok (.aload_n 0, 1) := dk_42 (dk_at dksX1_identity_0 12 rfl rfl)
theorem dX1_identity_13 : decode cX1_identity 13 = .ok (.iload_n 1, 1) := dk_27 (dk_at dksX1_identity_0 13 rfl rfl)
theorem dX1_identity_14 : decode cX1_identity 14 = .ok (.invokevirtual 117, 3) := dk_182 0 117 (dk_at dksX1_identity_0 14 rfl rfl)
theorem dX1_identity_17 : decode cX1_identity 17 = .ok (.getfield 121, 3) := dk_180 0 121 (dk_at dksX1_identity_0 17 rfl rfl)
theorem dX1_identity_20 : decode cX1_identity 20 = .ok (.iconst 4, 1) := dk_7 (dk_at dksX1_identity_0 20 rfl rfl)
theorem dX1_identity_21 : decode cX1_identity 21 = .ok (.if_icmp .ge 8, 3) := dk_162 0 8 (dk_at dksX1_identity_0 21 rfl rfl)
theorem dX1_identity_24 : decode cX1_identity 24 = .ok (.bipush (-2), 2) := dk_16 254 (dk_at dksX1_identity_1 0 rfl rfl)
theorem dX1_identity_26 : decode cX1_identity 26 = .ok (.goto 16, 3) := dk_167 0 16 (dk_at dksX1_identity_1 2 rfl rfl)
theorem dX1_identity_29 : decode cX1_identity 29 = .ok (.aload_n 0, 1) := dk_42 (dk_at dksX1_identity_1 5 rfl rfl)
theorem dX1_identity_30 : decode cX1_identity 30 = .ok (.aload_n 0, 1) := dk_42 (dk_at dksX1_identity_1 6 rfl rfl)
theorem dX1_identity_31 : decode cX1_identity 31 = .ok (.iload_n 1, 1) := dk_27 (dk_at dksX1_identity_1 7 rfl rfl)
theorem dX1_identity_32 : decode cX1_identity 32 = .ok (.invokevirtual 117, 3) := dk_182 0 117 (dk_at dksX1_identity_1 8 rfl rfl)
theorem dX1_identity_35 : decode cX1_identity 35 = .ok (.getfield 124, 3) := dk_180 0 124 (dk_at dksX1_identity_1 11 rfl rfl)
theorem dX1_identity_38 : decode cX1_identity 38 = .ok (.iload_n 2, 1) := dk_28 (dk_at dksX1_identity_1 14 rfl rfl)
theorem dX1_identity_39 : decode cX1_identity 39 = .ok (.invokevirtual 138, 3) := dk_182 0 138 (dk_at dksX1_identity_1 15 rfl rfl)
theorem dX1_identity_42 : decode cX1_identity 42 = .ok (.ireturn, 1) := dk_172 (dk_at dksX1_identity_1 18 rfl rfl)
def dkwX1_rule_3 : List UInt8 := [43, 8, 46, 43, 16, 10, 46, 104, 96, 43, 16, 6, 46, 43, 16, 9, 46, 104, 100, 133, 182, 0, 134, 172]
abbrev dktX1_rule_3 : List UInt8 := dkwX1_rule_3 ++ []
def dkwX1_rule_2 : List UInt8 := [167, 0, 47, 42, 180, 0, 20, 43, 3, 46, 43, 16, 15, 46, 104, 43, 6, 46, 43, 16, 12, 46, 104, 100]
abbrev dktX1_rule_2 : List UInt8 := dkwX1_rule_2 ++ dktX1_rule_3
def dkwX1_rule_1 : List UInt8 := [100, 43, 7, 46, 43, 16, 11, 46, 104, 96, 43, 16, 8, 46, 43, 16, 7, 46, 104, 100, 133, 182, 0, 134]
abbrev dktX1_rule_1 : List UInt8 := dkwX1_rule_1 ++ dktX1_rule_2
def dkwX1_rule_0 : List UInt8 := [28, 153, 0, 50, 42, 180, 0, 20, 43, 4, 46, 43, 16, 14, 46, 104, 43, 5, 46, 43, 16, 13, 46, 104]
abbrev dktX1_rule_0 : List UInt8 := dkwX1_rule_0 ++ dktX1_rule_1
theorem dksX1_rule_0 : cX1_rule.data.toList.drop 0 = dktX1_rule_0 := by decide +kernel
theorem dksX1_rule_1 : cX1_rule.data.toList.drop 24 = dktX1_rule_1 := dk_seg dksX1_rule_0 24 rfl rfl
theorem dksX1_rule_2 : cX1_rule.data.toList.drop 48 = dktX1_rule_2 := dk_seg dksX1_rule_1 24 rfl rfl
theorem dksX1_rule_3 : cX1_rule.data.toList.drop 72 = dktX1_rule_3 := dk_seg dksX1_rule_2 24 rfl rfl
theorem dX1_rule_0 : decode cX1_rule 0 = .ok (.iload_n 2, 1) := dk_28 (dk_at dksX1_rule_0 0 rfl rfl)
theorem dX1_rule_1 : decode cX1_rule 1 = .ok (.ifCond .eq 50, 3) := dk_153 0 50 (dk_at dksX1_rule_0 1 rfl rfl)
theorem dX1_rule_4 : decode cX1_rule 4 = .ok (.aload_n 0, 1) := dk_42 (dk_at dksX1_rule_0 4 rfl rfl)
theorem dX1_rule_5 : decode cX1_rule 5 = .ok (.getfield 20, 3) := dk_180 0 20 (dk_at dksX1_rule_0 5 rfl rfl)
theorem dX1_rule_8 : decode cX1_rule 8 = .ok (.aload_n 1, 1) := dk_43 (dk_at dksX1_rule_0 8 rfl rfl)
theorem dX1_rule_9 : decode cX1_rule 9 = .ok (.iconst 1, 1) := dk_4 (dk_at dksX1_rule_0 9 rfl rfl)
theorem dX1_rule_10 : decode cX1_rule 10 = .ok (.iaload, 1) := dk_46 (dk_at dksX1_rule_0 10 rfl rfl)
theorem dX1_rule_11 : decode cX1_rule 11 = .ok (.aload_n 1, 1) := dk_43 (dk_at dksX1_rule_0 11 rfl rfl)
theorem dX1_rule_12 : decode cX1_rule 12 = .ok (.bipush 14, 2) := dk_16 14 (dk_at dksX1_rule_0 12 rfl rfl)
theorem dX1_rule_14 : decode cX1_rule 14 = .ok (.iaload, 1) := dk_46 (dk_at dksX1_rule_0 14 rfl rfl)
theorem dX1_rule_15 : decode cX1_rule 15 = .ok (.imul, 1) := dk_104 (dk_at dksX1_rule_0 15 rfl rfl)
theorem dX1_rule_16 : decode cX1_rule 16 = .ok (.aload_n 1, 1) := dk_43 (dk_at dksX1_rule_0 16 rfl rfl)
theorem dX1_rule_17 : decode cX1_rule 17 = .ok (.iconst 2, 1) := dk_5 (dk_at dksX1_rule_0 17 rfl rfl)
theorem dX1_rule_18 : decode cX1_rule 18 = .ok (.iaload, 1) := dk_46 (dk_at dksX1_rule_0 18 rfl rfl)
theorem dX1_rule_19 : decode cX1_rule 19 = .ok (.aload_n 1, 1) := dk_43 (dk_at dksX1_rule_0 19 rfl rfl)
theorem dX1_rule_20 : decode cX1_rule 20 = .ok (.bipush 13, 2) := dk_16 13 (dk_at dksX1_rule_0 20 rfl rfl)
theorem dX1_rule_22 : decode cX1_rule 22 = .ok (.iaload, 1) := dk_46 (dk_at dksX1_rule_0 22 rfl rfl)
theorem dX1_rule_23 : decode cX1_rule 23 = .ok (.imul, 1) := dk_104 (dk_at dksX1_rule_0 23 rfl rfl)
theorem dX1_rule_24 : decode cX1_rule 24 = .ok (.isub, 1) := dk_100 (dk_at dksX1_rule_1 0 rfl rfl)
theorem dX1_rule_25 : decode cX1_rule 25 = .ok (.aload_n 1, 1) := dk_43 (dk_at dksX1_rule_1 1 rfl rfl)
theorem dX1_rule_26 : decode cX1_rule 26 = .ok (.iconst 4, 1) := dk_7 (dk_at dksX1_rule_1 2 rfl rfl)
theorem dX1_rule_27 : decode cX1_rule 27 = .ok (.iaload, 1) := dk_46 (dk_at dksX1_rule_1 3 rfl rfl)
theorem dX1_rule_28 : decode cX1_rule 28 = .ok (.aload_n 1, 1) := dk_43 (dk_at dksX1_rule_1 4 rfl rfl)
theorem dX1_rule_29 : decode cX1_rule 29 = .ok (.bipush 11, 2) := dk_16 11 (dk_at dksX1_rule_1 5 rfl rfl)
theorem dX1_rule_31 : decode cX1_rule 31 = .ok (.iaload, 1) := dk_46 (dk_at dksX1_rule_1 7 rfl rfl)
theorem dX1_rule_32 : decode cX1_rule 32 = .ok (.imul, 1) := dk_104 (dk_at dksX1_rule_1 8 rfl rfl)
theorem dX1_rule_33 : decode cX1_rule 33 = .ok (.iadd, 1) := dk_96 (dk_at dksX1_rule_1 9 rfl rfl)
theorem dX1_rule_34 : decode cX1_rule 34 = .ok (.aload_n 1, 1) := dk_43 (dk_at dksX1_rule_1 10 rfl rfl)
theorem dX1_rule_35 : decode cX1_rule 35 = .ok (.bipush 8, 2) := dk_16 8 (dk_at dksX1_rule_1 11 rfl rfl)
theorem dX1_rule_37 : decode cX1_rule 37 = .ok (.iaload, 1) := dk_46 (dk_at dksX1_rule_1 13 rfl rfl)
theorem dX1_rule_38 : decode cX1_rule 38 = .ok (.aload_n 1, 1) := dk_43 (dk_at dksX1_rule_1 14 rfl rfl)
theorem dX1_rule_39 : decode cX1_rule 39 = .ok (.bipush 7, 2) := dk_16 7 (dk_at dksX1_rule_1 15 rfl rfl)
theorem dX1_rule_41 : decode cX1_rule 41 = .ok (.iaload, 1) := dk_46 (dk_at dksX1_rule_1 17 rfl rfl)
theorem dX1_rule_42 : decode cX1_rule 42 = .ok (.imul, 1) := dk_104 (dk_at dksX1_rule_1 18 rfl rfl)
theorem dX1_rule_43 : decode cX1_rule 43 = .ok (.isub, 1) := dk_100 (dk_at dksX1_rule_1 19 rfl rfl)
theorem dX1_rule_44 : decode cX1_rule 44 = .ok (.i2l, 1) := dk_133 (dk_at dksX1_rule_1 20 rfl rfl)
theorem dX1_rule_45 : decode cX1_rule 45 = .ok (.invokevirtual 134, 3) := dk_182 0 134 (dk_at dksX1_rule_1 21 rfl rfl)
theorem dX1_rule_48 : decode cX1_rule 48 = .ok (.goto 47, 3) := dk_167 0 47 (dk_at dksX1_rule_2 0 rfl rfl)
theorem dX1_rule_51 : decode cX1_rule 51 = .ok (.aload_n 0, 1) := dk_42 (dk_at dksX1_rule_2 3 rfl rfl)
theorem dX1_rule_52 : decode cX1_rule 52 = .ok (.getfield 20, 3) := dk_180 0 20 (dk_at dksX1_rule_2 4 rfl rfl)
theorem dX1_rule_55 : decode cX1_rule 55 = .ok (.aload_n 1, 1) := dk_43 (dk_at dksX1_rule_2 7 rfl rfl)
theorem dX1_rule_56 : decode cX1_rule 56 = .ok (.iconst 0, 1) := dk_3 (dk_at dksX1_rule_2 8 rfl rfl)
theorem dX1_rule_57 : decode cX1_rule 57 = .ok (.iaload, 1) := dk_46 (dk_at dksX1_rule_2 9 rfl rfl)
theorem dX1_rule_58 : decode cX1_rule 58 = .ok (.aload_n 1, 1) := dk_43 (dk_at dksX1_rule_2 10 rfl rfl)
theorem dX1_rule_59 : decode cX1_rule 59 = .ok (.bipush 15, 2) := dk_16 15 (dk_at dksX1_rule_2 11 rfl rfl)
theorem dX1_rule_61 : decode cX1_rule 61 = .ok (.iaload, 1) := dk_46 (dk_at dksX1_rule_2 13 rfl rfl)
theorem dX1_rule_62 : decode cX1_rule 62 = .ok (.imul, 1) := dk_104 (dk_at dksX1_rule_2 14 rfl rfl)
theorem dX1_rule_63 : decode cX1_rule 63 = .ok (.aload_n 1, 1) := dk_43 (dk_at dksX1_rule_2 15 rfl rfl)
theorem dX1_rule_64 : decode cX1_rule 64 = .ok (.iconst 3, 1) := dk_6 (dk_at dksX1_rule_2 16 rfl rfl)
theorem dX1_rule_65 : decode cX1_rule 65 = .ok (.iaload, 1) := dk_46 (dk_at dksX1_rule_2 17 rfl rfl)
theorem dX1_rule_66 : decode cX1_rule 66 = .ok (.aload_n 1, 1) := dk_43 (dk_at dksX1_rule_2 18 rfl rfl)
theorem dX1_rule_67 : decode cX1_rule 67 = .ok (.bipush 12, 2) := dk_16 12 (dk_at dksX1_rule_2 19 rfl rfl)
theorem dX1_rule_69 : decode cX1_rule 69 = .ok (.iaload, 1) := dk_46 (dk_at dksX1_rule_2 21 rfl rfl)
theorem dX1_rule_70 : decode cX1_rule 70 = .ok (.imul, 1) := dk_104 (dk_at dksX1_rule_2 22 rfl rfl)
theorem dX1_rule_71 : decode cX1_rule 71 = .ok (.isub, 1) := dk_100 (dk_at dksX1_rule_2 23 rfl rfl)
theorem dX1_rule_72 : decode cX1_rule 72 = .ok (.aload_n 1, 1) := dk_43 (dk_at dksX1_rule_3 0 rfl rfl)
theorem dX1_rule_73 : decode cX1_rule 73 = .ok (.iconst 5, 1) := dk_8 (dk_at dksX1_rule_3 1 rfl rfl)
theorem dX1_rule_74 : decode cX1_rule 74 = .ok (.iaload, 1) := dk_46 (dk_at dksX1_rule_3 2 rfl rfl)
theorem dX1_rule_75 : decode cX1_rule 75 = .ok (.aload_n 1, 1) := dk_43 (dk_at dksX1_rule_3 3 rfl rfl)
theorem dX1_rule_76 : decode cX1_rule 76 = .ok (.bipush 10, 2) := dk_16 10 (dk_at dksX1_rule_3 4 rfl rfl)
theorem dX1_rule_78 : decode cX1_rule 78 = .ok (.iaload, 1) := dk_46 (dk_at dksX1_rule_3 6 rfl rfl)
theorem dX1_rule_79 : decode cX1_rule 79 = .ok (.imul, 1) := dk_104 (dk_at dksX1_rule_3 7 rfl rfl)
theorem dX1_rule_80 : decode cX1_rule 80 = .ok (.iadd, 1) := dk_96 (dk_at dksX1_rule_3 8 rfl rfl)
theorem dX1_rule_81 : decode cX1_rule 81 = .ok (.aload_n 1, 1) := dk_43 (dk_at dksX1_rule_3 9 rfl rfl)
theorem dX1_rule_82 : decode cX1_rule 82 = .ok (.bipush 6, 2) := dk_16 6 (dk_at dksX1_rule_3 10 rfl rfl)
theorem dX1_rule_84 : decode cX1_rule 84 = .ok (.iaload, 1) := dk_46 (dk_at dksX1_rule_3 12 rfl rfl)
theorem dX1_rule_85 : decode cX1_rule 85 = .ok (.aload_n 1, 1) := dk_43 (dk_at dksX1_rule_3 13 rfl rfl)
theorem dX1_rule_86 : decode cX1_rule 86 = .ok (.bipush 9, 2) := dk_16 9 (dk_at dksX1_rule_3 14 rfl rfl)
theorem dX1_rule_88 : decode cX1_rule 88 = .ok (.iaload, 1) := dk_46 (dk_at dksX1_rule_3 16 rfl rfl)
theorem dX1_rule_89 : decode cX1_rule 89 = .ok (.imul, 1) := dk_104 (dk_at dksX1_rule_3 17 rfl rfl)
theorem dX1_rule_90 : decode cX1_rule 90 = .ok (.isub, 1) := dk_100 (dk_at dksX1_rule_3 18 rfl rfl)
theorem dX1_rule_91 : decode cX1_rule 91 = .ok (.i2l, 1) := dk_133 (dk_at dksX1_rule_3 19 rfl rfl)
theorem dX1_rule_92 : decode cX1_rule 92 = .ok (.invokevirtual 134, 3) := dk_182 0 134 (dk_at dksX1_rule_3 20 rfl rfl)
theorem dX1_rule_95 : decode cX1_rule 95 = .ok (.ireturn, 1) := dk_172 (dk_at dksX1_rule_3 23 rfl rfl)
def dkwX1_made_1 : List UInt8 := [180, 0, 124, 190, 182, 0, 142, 153, 0, 7, 4, 167, 0, 8, 3, 167, 0, 4, 2, 172]
abbrev dktX1_made_1 : List UInt8 := dkwX1_made_1 ++ []
def dkwX1_made_0 : List UInt8 := [42, 27, 182, 0, 113, 153, 0, 35, 42, 42, 27, 182, 0, 117, 180, 0, 124, 42, 27, 182, 0, 117]
abbrev dktX1_made_0 : List UInt8 := dkwX1_made_0 ++ dktX1_made_1
theorem dksX1_made_0 : cX1_made.data.toList.drop 0 = dktX1_made_0 := by decide +kernel
theorem dksX1_made_1 : cX1_made.data.toList.drop 22 = dktX1_made_1 := dk_seg dksX1_made_0 22 rfl rfl
theorem dX1_made_0 : decode cX1_made 0 = .ok (.aload_n 0, 1) := dk_42 (dk_at dksX1_made_0 0 rfl rfl)
theorem dX1_made_1 : decode cX1_made 1 = .ok (.iload_n 1, 1) := dk_27 (dk_at dksX1_made_0 1 rfl rfl)
theorem dX1_made_2 : decode cX1_made 2 = .ok (.invokevirtual 113, 3) := dk_182 0 113 (dk_at dksX1_made_0 2 rfl rfl)
theorem dX1_made_5 : decode cX1_made 5 = .ok (.ifCond .eq 35, 3) := dk_153 0 35 (dk_at dksX1_made_0 5 rfl rfl)
theorem dX1_made_8 : decode cX1_made 8 = .ok (.aload_n 0, 1) := dk_42 (dk_at dksX1_made_0 8 rfl rfl)
theorem dX1_made_9 : decode cX1_made 9 = .ok (.aload_n 0, 1) := dk_42 (dk_at dksX1_made_0 9 rfl rfl)
theorem dX1_made_10 : decode cX1_made 10 = .ok (.iload_n 1, 1) := dk_27 (dk_at dksX1_made_0 10 rfl rfl)
theorem dX1_made_11 : decode cX1_made 11 = .ok (.invokevirtual 117, 3) := dk_182 0 117 (dk_at dksX1_made_0 11 rfl rfl)
theorem dX1_made_14 : decode cX1_made 14 = .ok (.getfield 124, 3) := dk_180 0 124 (dk_at dksX1_made_0 14 rfl rfl)
theorem dX1_made_17 : decode cX1_made 17 = .ok (.aload_n 0, 1) := dk_42 (dk_at dksX1_made_0 17 rfl rfl)
theorem dX1_made_18 : decode cX1_made 18 = .ok (.iload_n 1, 1) := dk_27 (dk_at dksX1_made_0 18 rfl rfl)
theorem dX1_made_19 : decode cX1_made 19 = .ok (.invokevirtual 117, 3) := dk_182 0 117 (dk_at dksX1_made_0 19 rfl rfl)
theorem dX1_made_22 : decode cX1_made 22 = .ok (.getfield 124, 3) := dk_180 0 124 (dk_at dksX1_made_1 0 rfl rfl)
theorem dX1_made_25 : decode cX1_made 25 = .ok (.arraylength, 1) := dk_190 (dk_at dksX1_made_1 3 rfl rfl)
theorem dX1_made_26 : decode cX1_made 26 = .ok (.invokevirtual 142, 3) := dk_182 0 142 (dk_at dksX1_made_1 4 rfl rfl)
theorem dX1_made_29 : decode cX1_made 29 = .ok (.ifCond .eq 7, 3) := dk_153 0 7 (dk_at dksX1_made_1 7 rfl rfl)
theorem dX1_made_32 : decode cX1_made 32 = .ok (.iconst 1, 1) := dk_4 (dk_at dksX1_made_1 10 rfl rfl)
theorem dX1_made_33 : decode cX1_made 33 = .ok (.goto 8, 3) := dk_167 0 8 (dk_at dksX1_made_1 11 rfl rfl)
theorem dX1_made_36 : decode cX1_made 36 = .ok (.iconst 0, 1) := dk_3 (dk_at dksX1_made_1 14 rfl rfl)
theorem dX1_made_37 : decode cX1_made 37 = .ok (.goto 4, 3) := dk_167 0 4 (dk_at dksX1_made_1 15 rfl rfl)
theorem dX1_made_40 : decode cX1_made 40 = .ok (.iconst (-1), 1) := dk_2 (dk_at dksX1_made_1 18 rfl rfl)
theorem dX1_made_41 : decode cX1_made 41 = .ok (.ireturn, 1) := dk_172 (dk_at dksX1_made_1 19 rfl rfl)
def dkwX1_isMade_1 : List UInt8 := [42, 43, 4, 182, 0, 138, 154, 0, 7, 4, 167, 0, 4, 3, 172]
abbrev dktX1_isMade_1 : List UInt8 := dkwX1_isMade_1 ++ []
def dkwX1_isMade_0 : List UInt8 := [43, 28, 184, 0, 130, 6, 159, 0, 31, 28, 16, 16, 161, 0, 21, 42, 43, 3, 182, 0, 138, 154, 0, 16]
abbrev dktX1_isMade_0 : List UInt8 := dkwX1_isMade_0 ++ dktX1_isMade_1
theorem dksX1_isMade_0 : cX1_isMade.data.toList.drop 0 = dktX1_isMade_0 := by decide +kernel
theorem dksX1_isMade_1 : cX1_isMade.data.toList.drop 24 = dktX1_isMade_1 := dk_seg dksX1_isMade_0 24 rfl rfl
theorem dX1_isMade_0 : decode cX1_isMade 0 = .ok (.aload_n 1, 1) := dk_43 (dk_at dksX1_isMade_0 0 rfl rfl)
theorem dX1_isMade_1 : decode cX1_isMade 1 = .ok (.iload_n 2, 1) := dk_28 (dk_at dksX1_isMade_0 1 rfl rfl)
theorem dX1_isMade_2 : decode cX1_isMade 2 = .ok (.invokestatic 130, 3) := dk_184 0 130 (dk_at dksX1_isMade_0 2 rfl rfl)
theorem dX1_isMade_5 : decode cX1_isMade 5 = .ok (.iconst 3, 1) := dk_6 (dk_at dksX1_isMade_0 5 rfl rfl)
theorem dX1_isMade_6 : decode cX1_isMade 6 = .ok (.if_icmp .eq 31, 3) := dk_159 0 31 (dk_at dksX1_isMade_0 6 rfl rfl)
theorem dX1_isMade_9 : decode cX1_isMade 9 = .ok (.iload_n 2, 1) := dk_28 (dk_at dksX1_isMade_0 9 rfl rfl)
theorem dX1_isMade_10 : decode cX1_isMade 10 = .ok (.bipush 16, 2) := dk_16 16 (dk_at dksX1_isMade_0 10 rfl rfl)
theorem dX1_isMade_12 : decode cX1_isMade 12 = .ok (.if_icmp .lt 21, 3) := dk_161 0 21 (dk_at dksX1_isMade_0 12 rfl rfl)
theorem dX1_isMade_15 : decode cX1_isMade 15 = .ok (.aload_n 0, 1) := dk_42 (dk_at dksX1_isMade_0 15 rfl rfl)
theorem dX1_isMade_16 : decode cX1_isMade 16 = .ok (.aload_n 1, 1) := dk_43 (dk_at dksX1_isMade_0 16 rfl rfl)
theorem dX1_isMade_17 : decode cX1_isMade 17 = .ok (.iconst 0, 1) := dk_3 (dk_at dksX1_isMade_0 17 rfl rfl)
theorem dX1_isMade_18 : decode cX1_isMade 18 = .ok (.invokevirtual 138, 3) := dk_182 0 138 (dk_at dksX1_isMade_0 18 rfl rfl)
theorem dX1_isMade_21 : decode cX1_isMade 21 = .ok (.ifCond .ne 16, 3) := dk_154 0 16 (dk_at dksX1_isMade_0 21 rfl rfl)
theorem dX1_isMade_24 : decode cX1_isMade 24 = .ok (.aload_n 0, 1) := dk_42 (dk_at dksX1_isMade_1 0 rfl rfl)
theorem dX1_isMade_25 : decode cX1_isMade 25 = .ok (.aload_n 1, 1) := dk_43 (dk_at dksX1_isMade_1 1 rfl rfl)
theorem dX1_isMade_26 : decode cX1_isMade 26 = .ok (.iconst 1, 1) := dk_4 (dk_at dksX1_isMade_1 2 rfl rfl)
theorem dX1_isMade_27 : decode cX1_isMade 27 = .ok (.invokevirtual 138, 3) := dk_182 0 138 (dk_at dksX1_isMade_1 3 rfl rfl)
theorem dX1_isMade_30 : decode cX1_isMade 30 = .ok (.ifCond .ne 7, 3) := dk_154 0 7 (dk_at dksX1_isMade_1 6 rfl rfl)
theorem dX1_isMade_33 : decode cX1_isMade 33 = .ok (.iconst 1, 1) := dk_4 (dk_at dksX1_isMade_1 9 rfl rfl)
theorem dX1_isMade_34 : decode cX1_isMade 34 = .ok (.goto 4, 3) := dk_167 0 4 (dk_at dksX1_isMade_1 10 rfl rfl)
theorem dX1_isMade_37 : decode cX1_isMade 37 = .ok (.iconst 0, 1) := dk_3 (dk_at dksX1_isMade_1 13 rfl rfl)
theorem dX1_isMade_38 : decode cX1_isMade 38 = .ok (.ireturn, 1) := dk_172 (dk_at dksX1_isMade_1 14 rfl rfl)
def dkwX1_plain_2 : List UInt8 := [132, 3, 1, 167, 255, 228, 4, 172]
abbrev dktX1_plain_2 : List UInt8 := dkwX1_plain_2 ++ []
def dkwX1_plain_1 : List UInt8 := [162, 0, 28, 44, 29, 46, 44, 4, 178, 0, 127, 29, 46, 120, 4, 100, 46, 159, 0, 5, 3, 172]
abbrev dktX1_plain_1 : List UInt8 := dkwX1_plain_1 ++ dktX1_plain_2
def dkwX1_plain_0 : List UInt8 := [42, 27, 182, 0, 113, 154, 0, 5, 2, 172, 42, 27, 182, 0, 117, 180, 0, 124, 77, 3, 62, 29, 44, 190]
abbrev dktX1_plain_0 : List UInt8 := dkwX1_plain_0 ++ dktX1_plain_1
theorem dksX1_plain_0 : cX1_plain.data.toList.drop 0 = dktX1_plain_0 := by decide +kernel
theorem dksX1_plain_1 : cX1_plain.data.toList.drop 24 = dktX1_plain_1 := dk_seg dksX1_plain_0 24 rfl rfl
theorem dksX1_plain_2 : cX1_plain.data.toList.drop 46 = dktX1_plain_2 := dk_seg dksX1_plain_1 22 rfl rfl
theorem dX1_plain_0 : decode cX1_plain 0 = .ok (.aload_n 0, 1) := dk_42 (dk_at dksX1_plain_0 0 rfl rfl)
theorem dX1_plain_1 : decode cX1_plain 1 = .ok (.iload_n 1, 1) := dk_27 (dk_at dksX1_plain_0 1 rfl rfl)
theorem dX1_plain_2 : decode cX1_plain 2 = .ok (.invokevirtual 113, 3) := dk_182 0 113 (dk_at dksX1_plain_0 2 rfl rfl)
theorem dX1_plain_5 : decode cX1_plain 5 = .ok (.ifCond .ne 5, 3) := dk_154 0 5 (dk_at dksX1_plain_0 5 rfl rfl)
theorem dX1_plain_8 : decode cX1_plain 8 = .ok (.iconst (-1), 1) := dk_2 (dk_at dksX1_plain_0 8 rfl rfl)
theorem dX1_plain_9 : decode cX1_plain 9 = .ok (.ireturn, 1) := dk_172 (dk_at dksX1_plain_0 9 rfl rfl)
theorem dX1_plain_10 : decode cX1_plain 10 = .ok (.aload_n 0, 1) := dk_42 (dk_at dksX1_plain_0 10 rfl rfl)
theorem dX1_plain_11 : decode cX1_plain 11 = .ok (.iload_n 1, 1) := dk_27 (dk_at dksX1_plain_0 11 rfl rfl)
theorem dX1_plain_12 : decode cX1_plain 12 = .ok (.invokevirtual 117, 3) := dk_182 0 117 (dk_at dksX1_plain_0 12 rfl rfl)
theorem dX1_plain_15 : decode cX1_plain 15 = .ok (.getfield 124, 3) := dk_180 0 124 (dk_at dksX1_plain_0 15 rfl rfl)
theorem dX1_plain_18 : decode cX1_plain 18 = .ok (.astore_n 2, 1) := dk_77 (dk_at dksX1_plain_0 18 rfl rfl)
theorem dX1_plain_19 : decode cX1_plain 19 = .ok (.iconst 0, 1) := dk_3 (dk_at dksX1_plain_0 19 rfl rfl)
theorem dX1_plain_20 : decode cX1_plain 20 = .ok (.istore_n 3, 1) := dk_62 (dk_at dksX1_plain_0 20 rfl rfl)
theorem dX1_plain_21 : decode cX1_plain 21 = .ok (.iload_n 3, 1) := dk_29 (dk_at dksX1_plain_0 21 rfl rfl)
theorem dX1_plain_22 : decode cX1_plain 22 = .ok (.aload_n 2, 1) := dk_44 (dk_at dksX1_plain_0 22 rfl rfl)
theorem dX1_plain_23 : decode cX1_plain 23 = .ok (.arraylength, 1) := dk_190 (dk_at dksX1_plain_0 23 rfl rfl)
theorem dX1_plain_24 : decode cX1_plain 24 = .ok (.if_icmp .ge 28, 3) := dk_162 0 28 (dk_at dksX1_plain_1 0 rfl rfl)
theorem dX1_plain_27 : decode cX1_plain 27 = .ok (.aload_n 2, 1) := dk_44 (dk_at dksX1_plain_1 3 rfl rfl)
theorem dX1_plain_28 : decode cX1_plain 28 = .ok (.iload_n 3, 1) := dk_29 (dk_at dksX1_plain_1 4 rfl rfl)
theorem dX1_plain_29 : decode cX1_plain 29 = .ok (.iaload, 1) := dk_46 (dk_at dksX1_plain_1 5 rfl rfl)
theorem dX1_plain_30 : decode cX1_plain 30 = .ok (.aload_n 2, 1) := dk_44 (dk_at dksX1_plain_1 6 rfl rfl)
theorem dX1_plain_31 : decode cX1_plain 31 = .ok (.iconst 1, 1) := dk_4 (dk_at dksX1_plain_1 7 rfl rfl)
theorem dX1_plain_32 : decode cX1_plain 32 = .ok (.getstatic 127, 3) := dk_178 0 127 (dk_at dksX1_plain_1 8 rfl rfl)
theorem dX1_plain_35 : decode cX1_plain 35 = .ok (.iload_n 3, 1) := dk_29 (dk_at dksX1_plain_1 11 rfl rfl)
theorem dX1_plain_36 : decode cX1_plain 36 = .ok (.iaload, 1) := dk_46 (dk_at dksX1_plain_1 12 rfl rfl)
theorem dX1_plain_37 : decode cX1_plain 37 = .ok (.ishl, 1) := dk_120 (dk_at dksX1_plain_1 13 rfl rfl)
theorem dX1_plain_38 : decode cX1_plain 38 = .ok (.iconst 1, 1) := dk_4 (dk_at dksX1_plain_1 14 rfl rfl)
theorem dX1_plain_39 : decode cX1_plain 39 = .ok (.isub, 1) := dk_100 (dk_at dksX1_plain_1 15 rfl rfl)
theorem dX1_plain_40 : decode cX1_plain 40 = .ok (.iaload, 1) := dk_46 (dk_at dksX1_plain_1 16 rfl rfl)
theorem dX1_plain_41 : decode cX1_plain 41 = .ok (.if_icmp .eq 5, 3) := dk_159 0 5 (dk_at dksX1_plain_1 17 rfl rfl)
theorem dX1_plain_44 : decode cX1_plain 44 = .ok (.iconst 0, 1) := dk_3 (dk_at dksX1_plain_1 20 rfl rfl)
theorem dX1_plain_45 : decode cX1_plain 45 = .ok (.ireturn, 1) := dk_172 (dk_at dksX1_plain_1 21 rfl rfl)
theorem dX1_plain_46 : decode cX1_plain 46 = .ok (.iinc 3 1, 3) := dk_132 3 1 (dk_at dksX1_plain_2 0 rfl rfl)
theorem dX1_plain_49 : decode cX1_plain 49 = .ok (.goto (-28), 3) := dk_167 255 228 (dk_at dksX1_plain_2 3 rfl rfl)
theorem dX1_plain_52 : decode cX1_plain 52 = .ok (.iconst 1, 1) := dk_4 (dk_at dksX1_plain_2 6 rfl rfl)
theorem dX1_plain_53 : decode cX1_plain 53 = .ok (.ireturn, 1) := dk_172 (dk_at dksX1_plain_2 7 rfl rfl)
def dkwX1_like_3 : List UInt8 := [182, 0, 149, 153, 0, 5, 29, 172, 132, 3, 1, 167, 255, 216, 3, 172]
abbrev dktX1_like_3 : List UInt8 := dkwX1_like_3 ++ []
def dkwX1_like_2 : List UInt8 := [180, 0, 146, 162, 0, 35, 42, 42, 27, 182, 0, 117, 180, 0, 124, 42, 28, 182, 0, 117, 180, 0, 124, 29]
abbrev dktX1_like_2 : List UInt8 := dkwX1_like_2 ++ dktX1_like_3
def dkwX1_like_1 : List UInt8 := [180, 0, 121, 42, 28, 182, 0, 117, 180, 0, 121, 159, 0, 5, 3, 172, 4, 62, 29, 42, 180, 0, 20]
abbrev dktX1_like_1 : List UInt8 := dkwX1_like_1 ++ dktX1_like_2
def dkwX1_like_0 : List UInt8 := [42, 27, 182, 0, 113, 153, 0, 11, 42, 28, 182, 0, 113, 154, 0, 5, 2, 172, 42, 27, 182, 0, 117]
abbrev dktX1_like_0 : List UInt8 := dkwX1_like_0 ++ dktX1_like_1
theorem dksX1_like_0 : cX1_like.data.toList.drop 0 = dktX1_like_0 := by decide +kernel
theorem dksX1_like_1 : cX1_like.data.toList.drop 23 = dktX1_like_1 := dk_seg dksX1_like_0 23 rfl rfl
theorem dksX1_like_2 : cX1_like.data.toList.drop 46 = dktX1_like_2 := dk_seg dksX1_like_1 23 rfl rfl
theorem dksX1_like_3 : cX1_like.data.toList.drop 70 = dktX1_like_3 := dk_seg dksX1_like_2 24 rfl rfl
theorem dX1_like_0 : decode cX1_like 0 = .ok (.aload_n 0, 1) := dk_42 (dk_at dksX1_like_0 0 rfl rfl)
theorem dX1_like_1 : decode cX1_like 1 = .ok (.iload_n 1, 1) := dk_27 (dk_at dksX1_like_0 1 rfl rfl)
theorem dX1_like_2 : decode cX1_like 2 = .ok (.invokevirtual 113, 3) := dk_182 0 113 (dk_at dksX1_like_0 2 rfl rfl)
theorem dX1_like_5 : decode cX1_like 5 = .ok (.ifCond .eq 11, 3) := dk_153 0 11 (dk_at dksX1_like_0 5 rfl rfl)
theorem dX1_like_8 : decode cX1_like 8 = .ok (.aload_n 0, 1) := dk_42 (dk_at dksX1_like_0 8 rfl rfl)
theorem dX1_like_9 : decode cX1_like 9 = .ok (.iload_n 2, 1) := dk_28 (dk_at dksX1_like_0 9 rfl rfl)
theorem dX1_like_10 : decode cX1_like 10 = .ok (.invokevirtual 113, 3) := dk_182 0 113 (dk_at dksX1_like_0 10 rfl rfl)
theorem dX1_like_13 : decode cX1_like 13 = .ok (.ifCond .ne 5, 3) := dk_154 0 5 (dk_at dksX1_like_0 13 rfl rfl)
theorem dX1_like_16 : decode cX1_like 16 = .ok (.iconst (-1), 1) := dk_2 (dk_at dksX1_like_0 16 rfl rfl)
theorem dX1_like_17 : decode cX1_like 17 = .ok (.ireturn, 1) := dk_172 (dk_at dksX1_like_0 17 rfl rfl)
theorem dX1_like_18 : decode cX1_like 18 = .ok (.aload_n 0, 1) := dk_42 (dk_at dksX1_like_0 18 rfl rfl)
theorem dX1_like_19 : decode cX1_like 19 = .ok (.iload_n 1, 1) := dk_27 (dk_at dksX1_like_0 19 rfl rfl)
theorem dX1_like_20 : decode cX1_like 20 = .ok (.invokevirtual 117, 3) := dk_182 0 117 (dk_at dksX1_like_0 20 rfl rfl)
theorem dX1_like_23 : decode cX1_like 23 = .ok (.getfield 121, 3) := dk_180 0 121 (dk_at dksX1_like_1 0 rfl rfl)
theorem dX1_like_26 : decode cX1_like 26 = .ok (.aload_n 0, 1) := dk_42 (dk_at dksX1_like_1 3 rfl rfl)
theorem dX1_like_27 : decode cX1_like 27 = .ok (.iload_n 2, 1) := dk_28 (dk_at dksX1_like_1 4 rfl rfl)
theorem dX1_like_28 : decode cX1_like 28 = .ok (.invokevirtual 117, 3) := dk_182 0 117 (dk_at dksX1_like_1 5 rfl rfl)
theorem dX1_like_31 : decode cX1_like 31 = .ok (.getfield 121, 3) := dk_180 0 121 (dk_at dksX1_like_1 8 rfl rfl)
theorem dX1_like_34 : decode cX1_like 34 = .ok (.if_icmp .eq 5, 3) := dk_159 0 5 (dk_at dksX1_like_1 11 rfl rfl)
theorem dX1_like_37 : decode cX1_like 37 = .ok (.iconst 0, 1) := dk_3 (dk_at dksX1_like_1 14 rfl rfl)
theorem dX1_like_38 : decode cX1_like 38 = .ok (.ireturn, 1) := dk_172 (dk_at dksX1_like_1 15 rfl rfl)
theorem dX1_like_39 : decode cX1_like 39 = .ok (.iconst 1, 1) := dk_4 (dk_at dksX1_like_1 16 rfl rfl)
theorem dX1_like_40 : decode cX1_like 40 = .ok (.istore_n 3, 1) := dk_62 (dk_at dksX1_like_1 17 rfl rfl)
theorem dX1_like_41 : decode cX1_like 41 = .ok (.iload_n 3, 1) := dk_29 (dk_at dksX1_like_1 18 rfl rfl)
theorem dX1_like_42 : decode cX1_like 42 = .ok (.aload_n 0, 1) := dk_42 (dk_at dksX1_like_1 19 rfl rfl)
theorem dX1_like_43 : decode cX1_like 43 = .ok (.getfield 20, 3) := dk_180 0 20 (dk_at dksX1_like_1 20 rfl rfl)
theorem dX1_like_46 : decode cX1_like 46 = .ok (.getfield 146, 3) := dk_180 0 146 (dk_at dksX1_like_2 0 rfl rfl)
theorem dX1_like_49 : decode cX1_like 49 = .ok (.if_icmp .ge 35, 3) := dk_162 0 35 (dk_at dksX1_like_2 3 rfl rfl)
theorem dX1_like_52 : decode cX1_like 52 = .ok (.aload_n 0, 1) := dk_42 (dk_at dksX1_like_2 6 rfl rfl)
theorem dX1_like_53 : decode cX1_like 53 = .ok (.aload_n 0, 1) := dk_42 (dk_at dksX1_like_2 7 rfl rfl)
theorem dX1_like_54 : decode cX1_like 54 = .ok (.iload_n 1, 1) := dk_27 (dk_at dksX1_like_2 8 rfl rfl)
theorem dX1_like_55 : decode cX1_like 55 = .ok (.invokevirtual 117, 3) := dk_182 0 117 (dk_at dksX1_like_2 9 rfl rfl)
theorem dX1_like_58 : decode cX1_like 58 = .ok (.getfield 124, 3) := dk_180 0 124 (dk_at dksX1_like_2 12 rfl rfl)
theorem dX1_like_61 : decode cX1_like 61 = .ok (.aload_n 0, 1) := dk_42 (dk_at dksX1_like_2 15 rfl rfl)
theorem dX1_like_62 : decode cX1_like 62 = .ok (.iload_n 2, 1) := dk_28 (dk_at dksX1_like_2 16 rfl rfl)
theorem dX1_like_63 : decode cX1_like 63 = .ok (.invokevirtual 117, 3) := dk_182 0 117 (dk_at dksX1_like_2 17 rfl rfl)
theorem dX1_like_66 : decode cX1_like 66 = .ok (.getfield 124, 3) := dk_180 0 124 (dk_at dksX1_like_2 20 rfl rfl)
theorem dX1_like_69 : decode cX1_like 69 = .ok (.iload_n 3, 1) := dk_29 (dk_at dksX1_like_2 23 rfl rfl)
theorem dX1_like_70 : decode cX1_like 70 = .ok (.invokevirtual 149, 3) := dk_182 0 149 (dk_at dksX1_like_3 0 rfl rfl)
theorem dX1_like_73 : decode cX1_like 73 = .ok (.ifCond .eq 5, 3) := dk_153 0 5 (dk_at dksX1_like_3 3 rfl rfl)
theorem dX1_like_76 : decode cX1_like 76 = .ok (.iload_n 3, 1) := dk_29 (dk_at dksX1_like_3 6 rfl rfl)
theorem dX1_like_77 : decode cX1_like 77 = .ok (.ireturn, 1) := dk_172 (dk_at dksX1_like_3 7 rfl rfl)
theorem dX1_like_78 : decode cX1_like 78 = .ok (.iinc 3 1, 3) := dk_132 3 1 (dk_at dksX1_like_3 8 rfl rfl)
theorem dX1_like_81 : decode cX1_like 81 = .ok (.goto (-40), 3) := dk_167 255 216 (dk_at dksX1_like_3 11 rfl rfl)
theorem dX1_like_84 : decode cX1_like 84 = .ok (.iconst 0, 1) := dk_3 (dk_at dksX1_like_3 14 rfl rfl)
theorem dX1_like_85 : decode cX1_like 85 = .ok (.ireturn, 1) := dk_172 (dk_at dksX1_like_3 15 rfl rfl)
def dkwX1_isLike_1 : List UInt8 := [133, 105, 182, 0, 134, 159, 0, 5, 3, 172, 132, 4, 1, 167, 255, 222, 4, 172]
abbrev dktX1_isLike_1 : List UInt8 := dkwX1_isLike_1 ++ []
def dkwX1_isLike_0 : List UInt8 := [3, 54, 4, 21, 4, 43, 190, 162, 0, 33, 43, 21, 4, 46, 42, 180, 0, 20, 29, 133, 44, 21, 4, 46]
abbrev dktX1_isLike_0 : List UInt8 := dkwX1_isLike_0 ++ dktX1_isLike_1
theorem dksX1_isLike_0 : cX1_isLike.data.toList.drop 0 = dktX1_isLike_0 := by decide +kernel
theorem dksX1_isLike_1 : cX1_isLike.data.toList.drop 24 = dktX1_isLike_1 := dk_seg dksX1_isLike_0 24 rfl rfl
theorem dX1_isLike_0 : decode cX1_isLike 0 = .ok (.iconst 0, 1) := dk_3 (dk_at dksX1_isLike_0 0 rfl rfl)
theorem dX1_isLike_1 : decode cX1_isLike 1 = .ok (.istore 4, 2) := dk_54 4 (dk_at dksX1_isLike_0 1 rfl rfl)
theorem dX1_isLike_3 : decode cX1_isLike 3 = .ok (.iload 4, 2) := dk_21 4 (dk_at dksX1_isLike_0 3 rfl rfl)
theorem dX1_isLike_5 : decode cX1_isLike 5 = .ok (.aload_n 1, 1) := dk_43 (dk_at dksX1_isLike_0 5 rfl rfl)
theorem dX1_isLike_6 : decode cX1_isLike 6 = .ok (.arraylength, 1) := dk_190 (dk_at dksX1_isLike_0 6 rfl rfl)
theorem dX1_isLike_7 : decode cX1_isLike 7 = .ok (.if_icmp .ge 33, 3) := dk_162 0 33 (dk_at dksX1_isLike_0 7 rfl rfl)
theorem dX1_isLike_10 : decode cX1_isLike 10 = .ok (.aload_n 1, 1) := dk_43 (dk_at dksX1_isLike_0 10 rfl rfl)
theorem dX1_isLike_11 : decode cX1_isLike 11 = .ok (.iload 4, 2) := dk_21 4 (dk_at dksX1_isLike_0 11 rfl rfl)
theorem dX1_isLike_13 : decode cX1_isLike 13 = .ok (.iaload, 1) := dk_46 (dk_at dksX1_isLike_0 13 rfl rfl)
theorem dX1_isLike_14 : decode cX1_isLike 14 = .ok (.aload_n 0, 1) := dk_42 (dk_at dksX1_isLike_0 14 rfl rfl)
theorem dX1_isLike_15 : decode cX1_isLike 15 = .ok (.getfield 20, 3) := dk_180 0 20 (dk_at dksX1_isLike_0 15 rfl rfl)
theorem dX1_isLike_18 : decode cX1_isLike 18 = .ok (.iload_n 3, 1) := dk_29 (dk_at dksX1_isLike_0 18 rfl rfl)
theorem dX1_isLike_19 : decode cX1_isLike 19 = .ok (.i2l, 1) := dk_133 (dk_at dksX1_isLike_0 19 rfl rfl)
theorem dX1_isLike_20 : decode cX1_isLike 20 = .ok (.aload_n 2, 1) := dk_44 (dk_at dksX1_isLike_0 20 rfl rfl)
theorem dX1_isLike_21 : decode cX1_isLike 21 = .ok (.iload 4, 2) := dk_21 4 (dk_at dksX1_isLike_0 21 rfl rfl)
theorem dX1_isLike_23 : decode cX1_isLike 23 = .ok (.iaload, 1) := dk_46 (dk_at dksX1_isLike_0 23 rfl rfl)
theorem dX1_isLike_24 : decode cX1_isLike 24 = .ok (.i2l, 1) := dk_133 (dk_at dksX1_isLike_1 0 rfl rfl)
theorem dX1_isLike_25 : decode cX1_isLike 25 = .ok (.lmul, 1) := dk_105 (dk_at dksX1_isLike_1 1 rfl rfl)
theorem dX1_isLike_26 : decode cX1_isLike 26 = .ok (.invokevirtual 134, 3) := dk_182 0 134 (dk_at dksX1_isLike_1 2 rfl rfl)
theorem dX1_isLike_29 : decode cX1_isLike 29 = .ok (.if_icmp .eq 5, 3) := dk_159 0 5 (dk_at dksX1_isLike_1 5 rfl rfl)
theorem dX1_isLike_32 : decode cX1_isLike 32 = .ok (.iconst 0, 1) := dk_3 (dk_at dksX1_isLike_1 8 rfl rfl)
theorem dX1_isLike_33 : decode cX1_isLike 33 = .ok (.ireturn, 1) := dk_172 (dk_at dksX1_isLike_1 9 rfl rfl)
theorem dX1_isLike_34 : decode cX1_isLike 34 = .ok (.iinc 4 1, 3) := dk_132 4 1 (dk_at dksX1_isLike_1 10 rfl rfl)
theorem dX1_isLike_37 : decode cX1_isLike 37 = .ok (.goto (-34), 3) := dk_167 255 222 (dk_at dksX1_isLike_1 13 rfl rfl)
theorem dX1_isLike_40 : decode cX1_isLike 40 = .ok (.iconst 1, 1) := dk_4 (dk_at dksX1_isLike_1 16 rfl rfl)
theorem dX1_isLike_41 : decode cX1_isLike 41 = .ok (.ireturn, 1) := dk_172 (dk_at dksX1_isLike_1 17 rfl rfl)
def dkwX1_rank_2 : List UInt8 := [167, 0, 4, 2, 172]
abbrev dktX1_rank_2 : List UInt8 := dkwX1_rank_2 ++ []
def dkwX1_rank_1 : List UInt8 := [184, 0, 61, 153, 0, 23, 187, 0, 157, 89, 42, 42, 27, 182, 0, 117, 28, 183, 0, 159, 182, 0, 162]
abbrev dktX1_rank_1 : List UInt8 := dkwX1_rank_1 ++ dktX1_rank_2
def dkwX1_rank_0 : List UInt8 := [42, 27, 182, 0, 113, 153, 0, 44, 28, 133, 9, 42, 27, 182, 0, 117, 180, 0, 124, 190, 4, 100, 133]
abbrev dktX1_rank_0 : List UInt8 := dkwX1_rank_0 ++ dktX1_rank_1
theorem dksX1_rank_0 : cX1_rank.data.toList.drop 0 = dktX1_rank_0 := by decide +kernel
theorem dksX1_rank_1 : cX1_rank.data.toList.drop 23 = dktX1_rank_1 := dk_seg dksX1_rank_0 23 rfl rfl
theorem dksX1_rank_2 : cX1_rank.data.toList.drop 46 = dktX1_rank_2 := dk_seg dksX1_rank_1 23 rfl rfl
theorem dX1_rank_0 : decode cX1_rank 0 = .ok (.aload_n 0, 1) := dk_42 (dk_at dksX1_rank_0 0 rfl rfl)
theorem dX1_rank_1 : decode cX1_rank 1 = .ok (.iload_n 1, 1) := dk_27 (dk_at dksX1_rank_0 1 rfl rfl)
theorem dX1_rank_2 : decode cX1_rank 2 = .ok (.invokevirtual 113, 3) := dk_182 0 113 (dk_at dksX1_rank_0 2 rfl rfl)
theorem dX1_rank_5 : decode cX1_rank 5 = .ok (.ifCond .eq 44, 3) := dk_153 0 44 (dk_at dksX1_rank_0 5 rfl rfl)
theorem dX1_rank_8 : decode cX1_rank 8 = .ok (.iload_n 2, 1) := dk_28 (dk_at dksX1_rank_0 8 rfl rfl)
theorem dX1_rank_9 : decode cX1_rank 9 = .ok (.i2l, 1) := dk_133 (dk_at dksX1_rank_0 9 rfl rfl)
theorem dX1_rank_10 : decode cX1_rank 10 = .ok (.lconst 0, 1) := dk_9 (dk_at dksX1_rank_0 10 rfl rfl)
theorem dX1_rank_11 : decode cX1_rank 11 = .ok (.aload_n 0, 1) := dk_42 (dk_at dksX1_rank_0 11 rfl rfl)
theorem dX1_rank_12 : decode cX1_rank 12 = .ok (.iload_n 1, 1) := dk_27 (dk_at dksX1_rank_0 12 rfl rfl)
theorem dX1_rank_13 : decode cX1_rank 13 = .ok (.invokevirtual 117, 3) := dk_182 0 117 (dk_at dksX1_rank_0 13 rfl rfl)
theorem dX1_rank_16 : decode cX1_rank 16 = .ok (.getfield 124, 3) := dk_180 0 124 (dk_at dksX1_rank_0 16 rfl rfl)
theorem dX1_rank_19 : decode cX1_rank 19 = .ok (.arraylength, 1) := dk_190 (dk_at dksX1_rank_0 19 rfl rfl)
theorem dX1_rank_20 : decode cX1_rank 20 = .ok (.iconst 1, 1) := dk_4 (dk_at dksX1_rank_0 20 rfl rfl)
theorem dX1_rank_21 : decode cX1_rank 21 = .ok (.isub, 1) := dk_100 (dk_at dksX1_rank_0 21 rfl rfl)
theorem dX1_rank_22 : decode cX1_rank 22 = .ok (.i2l, 1) := dk_133 (dk_at dksX1_rank_0 22 rfl rfl)
theorem dX1_rank_23 : decode cX1_rank 23 = .ok (.invokestatic 61, 3) := dk_184 0 61 (dk_at dksX1_rank_1 0 rfl rfl)
theorem dX1_rank_26 : decode cX1_rank 26 = .ok (.ifCond .eq 23, 3) := dk_153 0 23 (dk_at dksX1_rank_1 3 rfl rfl)
theorem dX1_rank_29 : decode cX1_rank 29 = .ok (.new 157, 3) := dk_187 0 157 (dk_at dksX1_rank_1 6 rfl rfl)
theorem dX1_rank_32 : decode cX1_rank 32 = .ok (.dup, 1) := dk_89 (dk_at dksX1_rank_1 9 rfl rfl)
theorem dX1_rank_33 : decode cX1_rank 33 = .ok (.aload_n 0, 1) := dk_42 (dk_at dksX1_rank_1 10 rfl rfl)
theorem dX1_rank_34 : decode cX1_rank 34 = .ok (.aload_n 0, 1) := dk_42 (dk_at dksX1_rank_1 11 rfl rfl)
theorem dX1_rank_35 : decode cX1_rank 35 = .ok (.iload_n 1, 1) := dk_27 (dk_at dksX1_rank_1 12 rfl rfl)
theorem dX1_rank_36 : decode cX1_rank 36 = .ok (.invokevirtual 117, 3) := dk_182 0 117 (dk_at dksX1_rank_1 13 rfl rfl)
theorem dX1_rank_39 : decode cX1_rank 39 = .ok (.iload_n 2, 1) := dk_28 (dk_at dksX1_rank_1 16 rfl rfl)
theorem dX1_rank_40 : decode cX1_rank 40 = .ok (.invokespecial 159, 3) := dk_183 0 159 (dk_at dksX1_rank_1 17 rfl rfl)
theorem dX1_rank_43 : decode cX1_rank 43 = .ok (.invokevirtual 162, 3) := dk_182 0 162 (dk_at dksX1_rank_1 20 rfl rfl)
theorem dX1_rank_46 : decode cX1_rank 46 = .ok (.goto 4, 3) := dk_167 0 4 (dk_at dksX1_rank_2 0 rfl rfl)
theorem dX1_rank_49 : decode cX1_rank 49 = .ok (.iconst (-1), 1) := dk_2 (dk_at dksX1_rank_2 3 rfl rfl)
theorem dX1_rank_50 : decode cX1_rank 50 = .ok (.ireturn, 1) := dk_172 (dk_at dksX1_rank_2 4 rfl rfl)
def dkwX1_spread_1 : List UInt8 := [167, 0, 16, 28, 29, 4, 126, 21, 4, 120, 128, 61, 29, 4, 122, 62, 132, 4, 1, 167, 255, 222, 28, 172]
abbrev dktX1_spread_1 : List UInt8 := dkwX1_spread_1 ++ []
def dkwX1_spread_0 : List UInt8 := [3, 61, 27, 62, 3, 54, 4, 21, 4, 7, 162, 0, 34, 26, 21, 4, 184, 0, 153, 154, 0, 6]
abbrev dktX1_spread_0 : List UInt8 := dkwX1_spread_0 ++ dktX1_spread_1
theorem dksX1_spread_0 : cX1_spread.data.toList.drop 0 = dktX1_spread_0 := by decide +kernel
theorem dksX1_spread_1 : cX1_spread.data.toList.drop 22 = dktX1_spread_1 := dk_seg dksX1_spread_0 22 rfl rfl
theorem dX1_spread_0 : decode cX1_spread 0 = .ok (.iconst 0, 1) := dk_3 (dk_at dksX1_spread_0 0 rfl rfl)
theorem dX1_spread_1 : decode cX1_spread 1 = .ok (.istore_n 2, 1) := dk_61 (dk_at dksX1_spread_0 1 rfl rfl)
theorem dX1_spread_2 : decode cX1_spread 2 = .ok (.iload_n 1, 1) := dk_27 (dk_at dksX1_spread_0 2 rfl rfl)
theorem dX1_spread_3 : decode cX1_spread 3 = .ok (.istore_n 3, 1) := dk_62 (dk_at dksX1_spread_0 3 rfl rfl)
theorem dX1_spread_4 : decode cX1_spread 4 = .ok (.iconst 0, 1) := dk_3 (dk_at dksX1_spread_0 4 rfl rfl)
theorem dX1_spread_5 : decode cX1_spread 5 = .ok (.istore 4, 2) := dk_54 4 (dk_at dksX1_spread_0 5 rfl rfl)
theorem dX1_spread_7 : decode cX1_spread 7 = .ok (.iload 4, 2) := dk_21 4 (dk_at dksX1_spread_0 7 rfl rfl)
theorem dX1_spread_9 : decode cX1_spread 9 = .ok (.iconst 4, 1) := dk_7 (dk_at dksX1_spread_0 9 rfl rfl)
theorem dX1_spread_10 : decode cX1_spread 10 = .ok (.if_icmp .ge 34, 3) := dk_162 0 34 (dk_at dksX1_spread_0 10 rfl rfl)
theorem dX1_spread_13 : decode cX1_spread 13 = .ok (.iload_n 0, 1) := dk_26 (dk_at dksX1_spread_0 13 rfl rfl)
theorem dX1_spread_14 : decode cX1_spread 14 = .ok (.iload 4, 2) := dk_21 4 (dk_at dksX1_spread_0 14 rfl rfl)
theorem dX1_spread_16 : decode cX1_spread 16 = .ok (.invokestatic 153, 3) := dk_184 0 153 (dk_at dksX1_spread_0 16 rfl rfl)
theorem dX1_spread_19 : decode cX1_spread 19 = .ok (.ifCond .ne 6, 3) := dk_154 0 6 (dk_at dksX1_spread_0 19 rfl rfl)
theorem dX1_spread_22 : decode cX1_spread 22 = .ok (.goto 16, 3) := dk_167 0 16 (dk_at dksX1_spread_1 0 rfl rfl)
theorem dX1_spread_25 : decode cX1_spread 25 = .ok (.iload_n 2, 1) := dk_28 (dk_at dksX1_spread_1 3 rfl rfl)
theorem dX1_spread_26 : decode cX1_spread 26 = .ok (.iload_n 3, 1) := dk_29 (dk_at dksX1_spread_1 4 rfl rfl)
theorem dX1_spread_27 : decode cX1_spread 27 = .ok (.iconst 1, 1) := dk_4 (dk_at dksX1_spread_1 5 rfl rfl)
theorem dX1_spread_28 : decode cX1_spread 28 = .ok (.iand, 1) := dk_126 (dk_at dksX1_spread_1 6 rfl rfl)
theorem dX1_spread_29 : decode cX1_spread 29 = .ok (.iload 4, 2) := dk_21 4 (dk_at dksX1_spread_1 7 rfl rfl)
theorem dX1_spread_31 : decode cX1_spread 31 = .ok (.ishl, 1) := dk_120 (dk_at dksX1_spread_1 9 rfl rfl)
theorem dX1_spread_32 : decode cX1_spread 32 = .ok (.ior, 1) := dk_128 (dk_at dksX1_spread_1 10 rfl rfl)
theorem dX1_spread_33 : decode cX1_spread 33 = .ok (.istore_n 2, 1) := dk_61 (dk_at dksX1_spread_1 11 rfl rfl)
theorem dX1_spread_34 : decode cX1_spread 34 = .ok (.iload_n 3, 1) := dk_29 (dk_at dksX1_spread_1 12 rfl rfl)
theorem dX1_spread_35 : decode cX1_spread 35 = .ok (.iconst 1, 1) := dk_4 (dk_at dksX1_spread_1 13 rfl rfl)
theorem dX1_spread_36 : decode cX1_spread 36 = .ok (.ishr, 1) := dk_122 (dk_at dksX1_spread_1 14 rfl rfl)
theorem dX1_spread_37 : decode cX1_spread 37 = .ok (.istore_n 3, 1) := dk_62 (dk_at dksX1_spread_1 15 rfl rfl)
theorem dX1_spread_38 : decode cX1_spread 38 = .ok (.iinc 4 1, 3) := dk_132 4 1 (dk_at dksX1_spread_1 16 rfl rfl)
theorem dX1_spread_41 : decode cX1_spread 41 = .ok (.goto (-34), 3) := dk_167 255 222 (dk_at dksX1_spread_1 19 rfl rfl)
theorem dX1_spread_44 : decode cX1_spread 44 = .ok (.iload_n 2, 1) := dk_28 (dk_at dksX1_spread_1 22 rfl rfl)
theorem dX1_spread_45 : decode cX1_spread 45 = .ok (.ireturn, 1) := dk_172 (dk_at dksX1_spread_1 23 rfl rfl)
def dkwX1_based_2 : List UInt8 := [180, 0, 42, 29, 46, 172]
abbrev dktX1_based_2 : List UInt8 := dkwX1_based_2 ++ []
def dkwX1_based_1 : List UInt8 := [180, 0, 124, 190, 4, 100, 133, 184, 0, 61, 154, 0, 5, 2, 172, 42, 27, 28, 182, 0, 192, 87, 42]
abbrev dktX1_based_1 : List UInt8 := dkwX1_based_1 ++ dktX1_based_2
def dkwX1_based_0 : List UInt8 := [42, 27, 182, 0, 113, 153, 0, 32, 42, 28, 182, 0, 165, 153, 0, 24, 29, 133, 9, 42, 27, 182, 0, 117]
abbrev dktX1_based_0 : List UInt8 := dkwX1_based_0 ++ dktX1_based_1
theorem dksX1_based_0 : cX1_based.data.toList.drop 0 = dktX1_based_0 := by decide +kernel
theorem dksX1_based_1 : cX1_based.data.toList.drop 24 = dktX1_based_1 := dk_seg dksX1_based_0 24 rfl rfl
theorem dksX1_based_2 : cX1_based.data.toList.drop 47 = dktX1_based_2 := dk_seg dksX1_based_1 23 rfl rfl
theorem dX1_based_0 : decode cX1_based 0 = .ok (.aload_n 0, 1) := dk_42 (dk_at dksX1_based_0 0 rfl rfl)
theorem dX1_based_1 : decode cX1_based 1 = .ok (.iload_n 1, 1) := dk_27 (dk_at dksX1_based_0 1 rfl rfl)
theorem dX1_based_2 : decode cX1_based 2 = .ok (.invokevirtual 113, 3) := dk_182 0 113 (dk_at dksX1_based_0 2 rfl rfl)
theorem dX1_based_5 : decode cX1_based 5 = .ok (.ifCond .eq 32, 3) := dk_153 0 32 (dk_at dksX1_based_0 5 rfl rfl)
theorem dX1_based_8 : decode cX1_based 8 = .ok (.aload_n 0, 1) := dk_42 (dk_at dksX1_based_0 8 rfl rfl)
theorem dX1_based_9 : decode cX1_based 9 = .ok (.iload_n 2, 1) := dk_28 (dk_at dksX1_based_0 9 rfl rfl)
theorem dX1_based_10 : decode cX1_based 10 = .ok (.invokevirtual 165, 3) := dk_182 0 165 (dk_at dksX1_based_0 10 rfl rfl)
theorem dX1_based_13 : decode cX1_based 13 = .ok (.ifCond .eq 24, 3) := dk_153 0 24 (dk_at dksX1_based_0 13 rfl rfl)
theorem dX1_based_16 : decode cX1_based 16 = .ok (.iload_n 3, 1) := dk_29 (dk_at dksX1_based_0 16 rfl rfl)
theorem dX1_based_17 : decode cX1_based 17 = .ok (.i2l, 1) := dk_133 (dk_at dksX1_based_0 17 rfl rfl)
theorem dX1_based_18 : decode cX1_based 18 = .ok (.lconst 0, 1) := dk_9 (dk_at dksX1_based_0 18 rfl rfl)
theorem dX1_based_19 : decode cX1_based 19 = .ok (.aload_n 0, 1) := dk_42 (dk_at dksX1_based_0 19 rfl rfl)
theorem dX1_based_20 : decode cX1_based 20 = .ok (.iload_n 1, 1) := dk_27 (dk_at dksX1_based_0 20 rfl rfl)
theorem dX1_based_21 : decode cX1_based 21 = .ok (.invokevirtual 117, 3) := dk_182 0 117 (dk_at dksX1_based_0 21 rfl rfl)
theorem dX1_based_24 : decode cX1_based 24 = .ok (.getfield 124, 3) := dk_180 0 124 (dk_at dksX1_based_1 0 rfl rfl)
theorem dX1_based_27 : decode cX1_based 27 = .ok (.arraylength, 1) := dk_190 (dk_at dksX1_based_1 3 rfl rfl)
theorem dX1_based_28 : decode cX1_based 28 = .ok (.iconst 1, 1) := dk_4 (dk_at dksX1_based_1 4 rfl rfl)
theorem dX1_based_29 : decode cX1_based 29 = .ok (.isub, 1) := dk_100 (dk_at dksX1_based_1 5 rfl rfl)
theorem dX1_based_30 : decode cX1_based 30 = .ok (.i2l, 1) := dk_133 (dk_at dksX1_based_1 6 rfl rfl)
theorem dX1_based_31 : decode cX1_based 31 = .ok (.invokestatic 61, 3) := dk_184 0 61 (dk_at dksX1_based_1 7 rfl rfl)
theorem dX1_based_34 : decode cX1_based 34 = .ok (.ifCond .ne 5, 3) := dk_154 0 5 (dk_at dksX1_based_1 10 rfl rfl)
theorem dX1_based_37 : decode cX1_based 37 = .ok (.iconst (-1), 1) := dk_2 (dk_at dksX1_based_1 13 rfl rfl)
theorem dX1_based_38 : decode cX1_based 38 = .ok (.ireturn, 1) := dk_172 (dk_at dksX1_based_1 14 rfl rfl)
theorem dX1_based_39 : decode cX1_based 39 = .ok (.aload_n 0, 1) := dk_42 (dk_at dksX1_based_1 15 rfl rfl)
theorem dX1_based_40 : decode cX1_based 40 = .ok (.iload_n 1, 1) := dk_27 (dk_at dksX1_based_1 16 rfl rfl)
theorem dX1_based_41 : decode cX1_based 41 = .ok (.iload_n 2, 1) := dk_28 (dk_at dksX1_based_1 17 rfl rfl)
theorem dX1_based_42 : decode cX1_based 42 = .ok (.invokevirtual 192, 3) := dk_182 0 192 (dk_at dksX1_based_1 18 rfl rfl)
theorem dX1_based_45 : decode cX1_based 45 = .ok (.pop, 1) := dk_87 (dk_at dksX1_based_1 21 rfl rfl)
theorem dX1_based_46 : decode cX1_based 46 = .ok (.aload_n 0, 1) := dk_42 (dk_at dksX1_based_1 22 rfl rfl)
theorem dX1_based_47 : decode cX1_based 47 = .ok (.getfield 42, 3) := dk_180 0 42 (dk_at dksX1_based_2 0 rfl rfl)
theorem dX1_based_50 : decode cX1_based 50 = .ok (.iload_n 3, 1) := dk_29 (dk_at dksX1_based_2 3 rfl rfl)
theorem dX1_based_51 : decode cX1_based 51 = .ok (.iaload, 1) := dk_46 (dk_at dksX1_based_2 4 rfl rfl)
theorem dX1_based_52 : decode cX1_based 52 = .ok (.ireturn, 1) := dk_172 (dk_at dksX1_based_2 5 rfl rfl)
def dkwX1_isBase_0 : List UInt8 := [42, 180, 0, 20, 180, 0, 98, 27, 184, 0, 92, 172]
abbrev dktX1_isBase_0 : List UInt8 := dkwX1_isBase_0 ++ []
theorem dksX1_isBase_0 : cX1_isBase.data.toList.drop 0 = dktX1_isBase_0 := by decide +kernel
theorem dX1_isBase_0 : decode cX1_isBase 0 = .ok (.aload_n 0, 1) := dk_42 (dk_at dksX1_isBase_0 0 rfl rfl)
theorem dX1_isBase_1 : decode cX1_isBase 1 = .ok (.getfield 20, 3) := dk_180 0 20 (dk_at dksX1_isBase_0 1 rfl rfl)
theorem dX1_isBase_4 : decode cX1_isBase 4 = .ok (.getfield 98, 3) := dk_180 0 98 (dk_at dksX1_isBase_0 4 rfl rfl)
theorem dX1_isBase_7 : decode cX1_isBase 7 = .ok (.iload_n 1, 1) := dk_27 (dk_at dksX1_isBase_0 7 rfl rfl)
theorem dX1_isBase_8 : decode cX1_isBase 8 = .ok (.invokestatic 92, 3) := dk_184 0 92 (dk_at dksX1_isBase_0 8 rfl rfl)
theorem dX1_isBase_11 : decode cX1_isBase 11 = .ok (.ireturn, 1) := dk_172 (dk_at dksX1_isBase_0 11 rfl rfl)
def dkwX1_lays_1 : List UInt8 := [45, 3, 46, 45, 4, 46, 45, 5, 46, 45, 6, 46, 182, 0, 188, 172]
abbrev dktX1_lays_1 : List UInt8 := dkwX1_lays_1 ++ []
def dkwX1_lays_0 : List UInt8 := [42, 180, 0, 20, 180, 0, 98, 28, 182, 0, 107, 192, 0, 173, 180, 0, 175, 78, 42, 42, 27, 182, 0, 117]
abbrev dktX1_lays_0 : List UInt8 := dkwX1_lays_0 ++ dktX1_lays_1
theorem dksX1_lays_0 : cX1_lays.data.toList.drop 0 = dktX1_lays_0 := by decide +kernel
theorem dksX1_lays_1 : cX1_lays.data.toList.drop 24 = dktX1_lays_1 := dk_seg dksX1_lays_0 24 rfl rfl
theorem dX1_lays_0 : decode cX1_lays 0 = .ok (.aload_n 0, 1) := dk_42 (dk_at dksX1_lays_0 0 rfl rfl)
theorem dX1_lays_1 : decode cX1_lays 1 = .ok (.getfield 20, 3) := dk_180 0 20 (dk_at dksX1_lays_0 1 rfl rfl)
theorem dX1_lays_4 : decode cX1_lays 4 = .ok (.getfield 98, 3) := dk_180 0 98 (dk_at dksX1_lays_0 4 rfl rfl)
theorem dX1_lays_7 : decode cX1_lays 7 = .ok (.iload_n 2, 1) := dk_28 (dk_at dksX1_lays_0 7 rfl rfl)
theorem dX1_lays_8 : decode cX1_lays 8 = .ok (.invokevirtual 107, 3) := dk_182 0 107 (dk_at dksX1_lays_0 8 rfl rfl)
theorem dX1_lays_11 : decode cX1_lays 11 = .ok (.checkcast 173, 3) := dk_192 0 173 (dk_at dksX1_lays_0 11 rfl rfl)
theorem dX1_lays_14 : decode cX1_lays 14 = .ok (.getfield 175, 3) := dk_180 0 175 (dk_at dksX1_lays_0 14 rfl rfl)
theorem dX1_lays_17 : decode cX1_lays 17 = .ok (.astore_n 3, 1) := dk_78 (dk_at dksX1_lays_0 17 rfl rfl)
theorem dX1_lays_18 : decode cX1_lays 18 = .ok (.aload_n 0, 1) := dk_42 (dk_at dksX1_lays_0 18 rfl rfl)
theorem dX1_lays_19 : decode cX1_lays 19 = .ok (.aload_n 0, 1) := dk_42 (dk_at dksX1_lays_0 19 rfl rfl)
theorem dX1_lays_20 : decode cX1_lays 20 = .ok (.iload_n 1, 1) := dk_27 (dk_at dksX1_lays_0 20 rfl rfl)
theorem dX1_lays_21 : decode cX1_lays 21 = .ok (.invokevirtual 117, 3) := dk_182 0 117 (dk_at dksX1_lays_0 21 rfl rfl)
theorem dX1_lays_24 : decode cX1_lays 24 = .ok (.aload_n 3, 1) := dk_45 (dk_at dksX1_lays_1 0 rfl rfl)
theorem dX1_lays_25 : decode cX1_lays 25 = .ok (.iconst 0, 1) := dk_3 (dk_at dksX1_lays_1 1 rfl rfl)
theorem dX1_lays_26 : decode cX1_lays 26 = .ok (.iaload, 1) := dk_46 (dk_at dksX1_lays_1 2 rfl rfl)
theorem dX1_lays_27 : decode cX1_lays 27 = .ok (.aload_n 3, 1) := dk_45 (dk_at dksX1_lays_1 3 rfl rfl)
theorem dX1_lays_28 : decode cX1_lays 28 = .ok (.iconst 1, 1) := dk_4 (dk_at dksX1_lays_1 4 rfl rfl)
theorem dX1_lays_29 : decode cX1_lays 29 = .ok (.iaload, 1) := dk_46 (dk_at dksX1_lays_1 5 rfl rfl)
theorem dX1_lays_30 : decode cX1_lays 30 = .ok (.aload_n 3, 1) := dk_45 (dk_at dksX1_lays_1 6 rfl rfl)
theorem dX1_lays_31 : decode cX1_lays 31 = .ok (.iconst 2, 1) := dk_5 (dk_at dksX1_lays_1 7 rfl rfl)
theorem dX1_lays_32 : decode cX1_lays 32 = .ok (.iaload, 1) := dk_46 (dk_at dksX1_lays_1 8 rfl rfl)
theorem dX1_lays_33 : decode cX1_lays 33 = .ok (.aload_n 3, 1) := dk_45 (dk_at dksX1_lays_1 9 rfl rfl)
theorem dX1_lays_34 : decode cX1_lays 34 = .ok (.iconst 3, 1) := dk_6 (dk_at dksX1_lays_1 10 rfl rfl)
theorem dX1_lays_35 : decode cX1_lays 35 = .ok (.iaload, 1) := dk_46 (dk_at dksX1_lays_1 11 rfl rfl)
theorem dX1_lays_36 : decode cX1_lays 36 = .ok (.invokevirtual 188, 3) := dk_182 0 188 (dk_at dksX1_lays_1 12 rfl rfl)
theorem dX1_lays_39 : decode cX1_lays 39 = .ok (.ireturn, 1) := dk_172 (dk_at dksX1_lays_1 15 rfl rfl)
def dkwX1_lays_2_2 : List UInt8 := [21, 5, 182, 0, 184, 132, 7, 1, 167, 255, 226, 21, 6, 172]
abbrev dktX1_lays_2_2 : List UInt8 := dkwX1_lays_2_2 ++ []
def dkwX1_lays_2_1 : List UInt8 := [54, 7, 21, 7, 43, 180, 0, 121, 162, 0, 27, 42, 42, 180, 0, 42, 21, 6, 21, 7, 28, 29, 21, 4]
abbrev dktX1_lays_2_1 : List UInt8 := dkwX1_lays_2_1 ++ dktX1_lays_2_2
def dkwX1_lays_2_0 : List UInt8 := [43, 180, 0, 124, 190, 54, 6, 43, 180, 0, 124, 3, 42, 180, 0, 42, 3, 21, 6, 184, 0, 178, 3]
abbrev dktX1_lays_2_0 : List UInt8 := dkwX1_lays_2_0 ++ dktX1_lays_2_1
theorem dksX1_lays_2_0 : cX1_lays_2.data.toList.drop 0 = dktX1_lays_2_0 := by decide +kernel
theorem dksX1_lays_2_1 : cX1_lays_2.data.toList.drop 23 = dktX1_lays_2_1 := dk_seg dksX1_lays_2_0 23 rfl rfl
theorem dksX1_lays_2_2 : cX1_lays_2.data.toList.drop 47 = dktX1_lays_2_2 := dk_seg dksX1_lays_2_1 24 rfl rfl
theorem dX1_lays_2_0 : decode cX1_lays_2 0 = .ok (.aload_n 1, 1) := dk_43 (dk_at dksX1_lays_2_0 0 rfl rfl)
theorem dX1_lays_2_1 : decode cX1_lays_2 1 = .ok (.getfield 124, 3) := dk_180 0 124 (dk_at dksX1_lays_2_0 1 rfl rfl)
theorem dX1_lays_2_4 : decode cX1_lays_2 4 = .ok (.arraylength, 1) := dk_190 (dk_at dksX1_lays_2_0 4 rfl rfl)
theorem dX1_lays_2_5 : decode cX1_lays_2 5 = .ok (.istore 6, 2) := dk_54 6 (dk_at dksX1_lays_2_0 5 rfl rfl)
theorem dX1_lays_2_7 : decode cX1_lays_2 7 = .ok (.aload_n 1, 1) := dk_43 (dk_at dksX1_lays_2_0 7 rfl rfl)
theorem dX1_lays_2_8 : decode cX1_lays_2 8 = .ok (.getfield 124, 3) := dk_180 0 124 (dk_at dksX1_lays_2_0 8 rfl rfl)
theorem dX1_lays_2_11 : decode cX1_lays_2 11 = .ok (.iconst 0, 1) := dk_3 (dk_at dksX1_lays_2_0 11 rfl rfl)
theorem dX1_lays_2_12 : decode cX1_lays_2 12 = .ok (.aload_n 0, 1) := dk_42 (dk_at dksX1_lays_2_0 12 rfl rfl)
theorem dX1_lays_2_13 : decode cX1_lays_2 13 = .ok (.getfield 42, 3) := dk_180 0 42 (dk_at dksX1_lays_2_0 13 rfl rfl)
theorem dX1_lays_2_16 : decode cX1_lays_2 16 = .ok (.iconst 0, 1) := dk_3 (dk_at dksX1_lays_2_0 16 rfl rfl)
theorem dX1_lays_2_17 : decode cX1_lays_2 17 = .ok (.iload 6, 2) := dk_21 6 (dk_at dksX1_lays_2_0 17 rfl rfl)
theorem dX1_lays_2_19 : decode cX1_lays_2 19 = .ok (.invokestatic 178, 3) := dk_184 0 178 (dk_at dksX1_lays_2_0 19 rfl rfl)
theorem dX1_lays_2_22 : decode cX1_lays_2 22 = .ok (.iconst 0, 1) := dk_3 (dk_at dksX1_lays_2_0 22 rfl rfl)
theorem dX1_lays_2_23 : decode cX1_lays_2 23 = .ok (.istore 7, 2) := dk_54 7 (dk_at dksX1_lays_2_1 0 rfl rfl)
theorem dX1_lays_2_25 : decode cX1_lays_2 25 = .ok (.iload 7, 2) := dk_21 7 (dk_at dksX1_lays_2_1 2 rfl rfl)
theorem dX1_lays_2_27 : decode cX1_lays_2 27 = .ok (.aload_n 1, 1) := dk_43 (dk_at dksX1_lays_2_1 4 rfl rfl)
theorem dX1_lays_2_28 : decode cX1_lays_2 28 = .ok (.getfield 121, 3) := dk_180 0 121 (dk_at dksX1_lays_2_1 5 rfl rfl)
theorem dX1_lays_2_31 : decode cX1_lays_2 31 = .ok (.if_icmp .ge 27, 3) := dk_162 0 27 (dk_at dksX1_lays_2_1 8 rfl rfl)
theorem dX1_lays_2_34 : decode cX1_lays_2 34 = .ok (.aload_n 0, 1) := dk_42 (dk_at dksX1_lays_2_1 11 rfl rfl)
theorem dX1_lays_2_35 : decode cX1_lays_2 35 = .ok (.aload_n 0, 1) := dk_42 (dk_at dksX1_lays_2_1 12 rfl rfl)
theorem dX1_lays_2_36 : decode cX1_lays_2 36 = .ok (.getfield 42, 3) := dk_180 0 42 (dk_at dksX1_lays_2_1 13 rfl rfl)
theorem dX1_lays_2_39 : decode cX1_lays_2 39 = .ok (.iload 6, 2) := dk_21 6 (dk_at dksX1_lays_2_1 16 rfl rfl)
theorem dX1_lays_2_41 : decode cX1_lays_2 41 = .ok (.iload 7, 2) := dk_21 7 (dk_at dksX1_lays_2_1 18 rfl rfl)
theorem dX1_lays_2_43 : decode cX1_lays_2 43 = .ok (.iload_n 2, 1) := dk_28 (dk_at dksX1_lays_2_1 20 rfl rfl)
theorem dX1_lays_2_44 : decode cX1_lays_2 44 = .ok (.iload_n 3, 1) := dk_29 (dk_at dksX1_lays_2_1 21 rfl rfl)
theorem dX1_lays_2_45 : decode cX1_lays_2 45 = .ok (.iload 4, 2) := dk_21 4 (dk_at dksX1_lays_2_1 22 rfl rfl)
theorem dX1_lays_2_47 : decode cX1_lays_2 47 = .ok (.iload 5, 2) := dk_21 5 (dk_at dksX1_lays_2_2 0 rfl rfl)
theorem dX1_lays_2_49 : decode cX1_lays_2 49 = .ok (.invokevirtual 184, 3) := dk_182 0 184 (dk_at dksX1_lays_2_2 2 rfl rfl)
theorem dX1_lays_2_52 : decode cX1_lays_2 52 = .ok (.iinc 7 1, 3) := dk_132 7 1 (dk_at dksX1_lays_2_2 5 rfl rfl)
theorem dX1_lays_2_55 : decode cX1_lays_2 55 = .ok (.goto (-30), 3) := dk_167 255 226 (dk_at dksX1_lays_2_2 8 rfl rfl)
theorem dX1_lays_2_58 : decode cX1_lays_2 58 = .ok (.iload 6, 2) := dk_21 6 (dk_at dksX1_lays_2_2 11 rfl rfl)
theorem dX1_lays_2_60 : decode cX1_lays_2 60 = .ok (.ireturn, 1) := dk_172 (dk_at dksX1_lays_2_2 13 rfl rfl)
def dkwX1_changes_4 : List UInt8 := [132, 8, 1, 167, 255, 163, 177]
abbrev dktX1_changes_4 : List UInt8 := dkwX1_changes_4 ++ []
def dkwX1_changes_3 : List UInt8 := [180, 0, 20, 21, 6, 133, 21, 9, 133, 105, 21, 7, 133, 21, 10, 133, 105, 97, 182, 0, 134, 79]
abbrev dktX1_changes_3 : List UInt8 := dkwX1_changes_3 ++ dktX1_changes_4
def dkwX1_changes_2 : List UInt8 := [21, 9, 133, 105, 21, 5, 133, 21, 10, 133, 105, 97, 182, 0, 134, 79, 43, 21, 8, 4, 29, 120, 128, 42]
abbrev dktX1_changes_2 : List UInt8 := dkwX1_changes_2 ++ dktX1_changes_3
def dkwX1_changes_1 : List UInt8 := [46, 54, 9, 43, 21, 8, 4, 29, 120, 128, 46, 54, 10, 43, 21, 8, 42, 180, 0, 20, 21, 4, 133]
abbrev dktX1_changes_1 : List UInt8 := dkwX1_changes_1 ++ dktX1_changes_2
def dkwX1_changes_0 : List UInt8 := [3, 54, 8, 21, 8, 28, 162, 0, 93, 21, 8, 29, 184, 0, 153, 153, 0, 6, 167, 0, 75, 43, 21, 8]
abbrev dktX1_changes_0 : List UInt8 := dkwX1_changes_0 ++ dktX1_changes_1
theorem dksX1_changes_0 : cX1_changes.data.toList.drop 0 = dktX1_changes_0 := by decide +kernel
theorem dksX1_changes_1 : cX1_changes.data.toList.drop 24 = dktX1_changes_1 := dk_seg dksX1_changes_0 24 rfl rfl
theorem dksX1_changes_2 : cX1_changes.data.toList.drop 47 = dktX1_changes_2 := dk_seg dksX1_changes_1 23 rfl rfl
theorem dksX1_changes_3 : cX1_changes.data.toList.drop 71 = dktX1_changes_3 := dk_seg dksX1_changes_2 24 rfl rfl
theorem dksX1_changes_4 : cX1_changes.data.toList.drop 93 = dktX1_changes_4 := dk_seg dksX1_changes_3 22 rfl rfl
theorem dX1_changes_0 : decode cX1_changes 0 = .ok (.iconst 0, 1) := dk_3 (dk_at dksX1_changes_0 0 rfl rfl)
theorem dX1_changes_1 : decode cX1_changes 1 = .ok (.istore 8, 2) := dk_54 8 (dk_at dksX1_changes_0 1 rfl rfl)
theorem dX1_changes_3 : decode cX1_changes 3 = .ok (.iload 8, 2) := dk_21 8 (dk_at dksX1_changes_0 3 rfl rfl)
theorem dX1_changes_5 : decode cX1_changes 5 = .ok (.iload_n 2, 1) := dk_28 (dk_at dksX1_changes_0 5 rfl rfl)
theorem dX1_changes_6 : decode cX1_changes 6 = .ok (.if_icmp .ge 93, 3) := dk_162 0 93 (dk_at dksX1_changes_0 6 rfl rfl)
theorem dX1_changes_9 : decode cX1_changes 9 = .ok (.iload 8, 2) := dk_21 8 (dk_at dksX1_changes_0 9 rfl rfl)
theorem dX1_changes_11 : decode cX1_changes 11 = .ok (.iload_n 3, 1) := dk_29 (dk_at dksX1_changes_0 11 rfl rfl)
theorem dX1_changes_12 : decode cX1_changes 12 = .ok (.invokestatic 153, 3) := dk_184 0 153 (dk_at dksX1_changes_0 12 rfl rfl)
theorem dX1_changes_15 : decode cX1_changes 15 = .ok (.ifCond .eq 6, 3) := dk_153 0 6 (dk_at dksX1_changes_0 15 rfl rfl)
theorem dX1_changes_18 : decode cX1_changes 18 = .ok (.goto 75, 3) := dk_167 0 75 (dk_at dksX1_changes_0 18 rfl rfl)
theorem dX1_changes_21 : decode cX1_changes 21 = .ok (.aload_n 1, 1) := dk_43 (dk_at dksX1_changes_0 21 rfl rfl)
theorem dX1_changes_22 : decode cX1_changes 22 = .ok (.iload 8, 2) := dk_21 8 (dk_at dksX1_changes_0 22 rfl rfl)
theorem dX1_changes_24 : decode cX1_changes 24 = .ok (.iaload, 1) := dk_46 (dk_at dksX1_changes_1 0 rfl rfl)
theorem dX1_changes_25 : decode cX1_changes 25 = .ok (.istore 9, 2) := dk_54 9 (dk_at dksX1_changes_1 1 rfl rfl)
theorem dX1_changes_27 : decode cX1_changes 27 = .ok (.aload_n 1, 1) := dk_43 (dk_at dksX1_changes_1 3 rfl rfl)
theorem dX1_changes_28 : decode cX1_changes 28 = .ok (.iload 8, 2) := dk_21 8 (dk_at dksX1_changes_1 4 rfl rfl)
theorem dX1_changes_30 : decode cX1_changes 30 = .ok (.iconst 1, 1) := dk_4 (dk_at dksX1_changes_1 6 rfl rfl)
theorem dX1_changes_31 : decode cX1_changes 31 = .ok (.iload_n 3, 1) := dk_29 (dk_at dksX1_changes_1 7 rfl rfl)
theorem dX1_changes_32 : decode cX1_changes 32 = .ok (.ishl, 1) := dk_120 (dk_at dksX1_changes_1 8 rfl rfl)
theorem dX1_changes_33 : decode cX1_changes 33 = .ok (.ior, 1) := dk_128 (dk_at dksX1_changes_1 9 rfl rfl)
theorem dX1_changes_34 : decode cX1_changes 34 = .ok (.iaload, 1) := dk_46 (dk_at dksX1_changes_1 10 rfl rfl)
theorem dX1_changes_35 : decode cX1_changes 35 = .ok (.istore 10, 2) := dk_54 10 (dk_at dksX1_changes_1 11 rfl rfl)
theorem dX1_changes_37 : decode cX1_changes 37 = .ok (.aload_n 1, 1) := dk_43 (dk_at dksX1_changes_1 13 rfl rfl)
theorem dX1_changes_38 : decode cX1_changes 38 = .ok (.iload 8, 2) := dk_21 8 (dk_at dksX1_changes_1 14 rfl rfl)
theorem dX1_changes_40 : decode cX1_changes 40 = .ok (.aload_n 0, 1) := dk_42 (dk_at dksX1_changes_1 16 rfl rfl)
theorem dX1_changes_41 : decode cX1_changes 41 = .ok (.getfield 20, 3) := dk_180 0 20 (dk_at dksX1_changes_1 17 rfl rfl)
theorem dX1_changes_44 : decode cX1_changes 44 = .ok (.iload 4, 2) := dk_21 4 (dk_at dksX1_changes_1 20 rfl rfl)
theorem dX1_changes_46 : decode cX1_changes 46 = .ok (.i2l, 1) := dk_133 (dk_at dksX1_changes_1 22 rfl rfl)
theorem dX1_changes_47 : decode cX1_changes 47 = .ok (.iload 9, 2) := dk_21 9 (dk_at dksX1_changes_2 0 rfl rfl)
theorem dX1_changes_49 : decode cX1_changes 49 = .ok (.i2l, 1) := dk_133 (dk_at dksX1_changes_2 2 rfl rfl)
theorem dX1_changes_50 : decode cX1_changes 50 = .ok (.lmul, 1) := dk_105 (dk_at dksX1_changes_2 3 rfl rfl)
theorem dX1_changes_51 : decode cX1_changes 51 = .ok (.iload 5, 2) := dk_21 5 (dk_at dksX1_changes_2 4 rfl rfl)
theorem dX1_changes_53 : decode cX1_changes 53 = .ok (.i2l, 1) := dk_133 (dk_at dksX1_changes_2 6 rfl rfl)
theorem dX1_changes_54 : decode cX1_changes 54 = .ok (.iload 10, 2) := dk_21 10 (dk_at dksX1_changes_2 7 rfl rfl)
theorem dX1_changes_56 : decode cX1_changes 56 = .ok (.i2l, 1) := dk_133 (dk_at dksX1_changes_2 9 rfl rfl)
theorem dX1_changes_57 : decode cX1_changes 57 = .ok (.lmul, 1) := dk_105 (dk_at dksX1_changes_2 10 rfl rfl)
theorem dX1_changes_58 : decode cX1_changes 58 = .ok (.ladd, 1) := dk_97 (dk_at dksX1_changes_2 11 rfl rfl)
theorem dX1_changes_59 : decode cX1_changes 59 = .ok (.invokevirtual 134, 3) := dk_182 0 134 (dk_at dksX1_changes_2 12 rfl rfl)
theorem dX1_changes_62 : decode cX1_changes 62 = .ok (.iastore, 1) := dk_79 (dk_at dksX1_changes_2 15 rfl rfl)
theorem dX1_changes_63 : decode cX1_changes 63 = .ok (.aload_n 1, 1) := dk_43 (dk_at dksX1_changes_2 16 rfl rfl)
theorem dX1_changes_64 : decode cX1_changes 64 = .ok (.iload 8, 2) := dk_21 8 (dk_at dksX1_changes_2 17 rfl rfl)
theorem dX1_changes_66 : decode cX1_changes 66 = .ok (.iconst 1, 1) := dk_4 (dk_at dksX1_changes_2 19 rfl rfl)
theorem dX1_changes_67 : decode cX1_changes 67 = .ok (.iload_n 3, 1) := dk_29 (dk_at dksX1_changes_2 20 rfl rfl)
theorem dX1_changes_68 : decode cX1_changes 68 = .ok (.ishl, 1) := dk_120 (dk_at dksX1_changes_2 21 rfl rfl)
theorem dX1_changes_69 : decode cX1_changes 69 = .ok (.ior, 1) := dk_128 (dk_at dksX1_changes_2 22 rfl rfl)
theorem dX1_changes_70 : decode cX1_changes 70 = .ok (.aload_n 0, 1) := dk_42 (dk_at dksX1_changes_2 23 rfl rfl)
theorem dX1_changes_71 : decode cX1_changes 71 = .ok (.getfield 20, 3) := dk_180 0 20 (dk_at dksX1_changes_3 0 rfl rfl)
theorem dX1_changes_74 : decode cX1_changes 74 = .ok (.iload 6, 2) := dk_21 6 (dk_at dksX1_changes_3 3 rfl rfl)
theorem dX1_changes_76 : decode cX1_changes 76 = .ok (.i2l, 1) := dk_133 (dk_at dksX1_changes_3 5 rfl rfl)
theorem dX1_changes_77 : decode cX1_changes 77 = .ok (.iload 9, 2) := dk_21 9 (dk_at dksX1_changes_3 6 rfl rfl)
theorem dX1_changes_79 : decode cX1_changes 79 = .ok (.i2l, 1) := dk_133 (dk_at dksX1_changes_3 8 rfl rfl)
theorem dX1_changes_80 : decode cX1_changes 80 = .ok (.lmul, 1) := dk_105 (dk_at dksX1_changes_3 9 rfl rfl)
theorem dX1_changes_81 : decode cX1_changes 81 = .ok (.iload 7, 2) := dk_21 7 (dk_at dksX1_changes_3 10 rfl rfl)
theorem dX1_changes_83 : decode cX1_changes 83 = .ok (.i2l, 1) := dk_133 (dk_at dksX1_changes_3 12 rfl rfl)
theorem dX1_changes_84 : decode cX1_changes 84 = .ok (.iload 10, 2) := dk_21 10 (dk_at dksX1_changes_3 13 rfl rfl)
theorem dX1_changes_86 : decode cX1_changes 86 = .ok (.i2l, 1) := dk_133 (dk_at dksX1_changes_3 15 rfl rfl)
theorem dX1_changes_87 : decode cX1_changes 87 = .ok (.lmul, 1) := dk_105 (dk_at dksX1_changes_3 16 rfl rfl)
theorem dX1_changes_88 : decode cX1_changes 88 = .ok (.ladd, 1) := dk_97 (dk_at dksX1_changes_3 17 rfl rfl)
theorem dX1_changes_89 : decode cX1_changes 89 = .ok (.invokevirtual 134, 3) := dk_182 0 134 (dk_at dksX1_changes_3 18 rfl rfl)
theorem dX1_changes_92 : decode cX1_changes 92 = .ok (.iastore, 1) := dk_79 (dk_at dksX1_changes_3 21 rfl rfl)
theorem dX1_changes_93 : decode cX1_changes 93 = .ok (.iinc 8 1, 3) := dk_132 8 1 (dk_at dksX1_changes_4 0 rfl rfl)
theorem dX1_changes_96 : decode cX1_changes 96 = .ok (.goto (-93), 3) := dk_167 255 163 (dk_at dksX1_changes_4 3 rfl rfl)
theorem dX1_changes_99 : decode cX1_changes 99 = .ok (.return_, 1) := dk_177 (dk_at dksX1_changes_4 6 rfl rfl)
def dkwX1_fits_1 : List UInt8 := [153, 0, 7, 4, 167, 0, 8, 3, 167, 0, 4, 2, 172]
abbrev dktX1_fits_1 : List UInt8 := dkwX1_fits_1 ++ []
def dkwX1_fits_0 : List UInt8 := [42, 27, 182, 0, 113, 153, 0, 28, 42, 28, 182, 0, 165, 153, 0, 20, 42, 27, 28, 182, 0, 195]
abbrev dktX1_fits_0 : List UInt8 := dkwX1_fits_0 ++ dktX1_fits_1
theorem dksX1_fits_0 : cX1_fits.data.toList.drop 0 = dktX1_fits_0 := by decide +kernel
theorem dksX1_fits_1 : cX1_fits.data.toList.drop 22 = dktX1_fits_1 := dk_seg dksX1_fits_0 22 rfl rfl
theorem dX1_fits_0 : decode cX1_fits 0 = .ok (.aload_n 0, 1) := dk_42 (dk_at dksX1_fits_0 0 rfl rfl)
theorem dX1_fits_1 : decode cX1_fits 1 = .ok (.iload_n 1, 1) := dk_27 (dk_at dksX1_fits_0 1 rfl rfl)
theorem dX1_fits_2 : decode cX1_fits 2 = .ok (.invokevirtual 113, 3) := dk_182 0 113 (dk_at dksX1_fits_0 2 rfl rfl)
theorem dX1_fits_5 : decode cX1_fits 5 = .ok (.ifCond .eq 28, 3) := dk_153 0 28 (dk_at dksX1_fits_0 5 rfl rfl)
theorem dX1_fits_8 : decode cX1_fits 8 = .ok (.aload_n 0, 1) := dk_42 (dk_at dksX1_fits_0 8 rfl rfl)
theorem dX1_fits_9 : decode cX1_fits 9 = .ok (.iload_n 2, 1) := dk_28 (dk_at dksX1_fits_0 9 rfl rfl)
theorem dX1_fits_10 : decode cX1_fits 10 = .ok (.invokevirtual 165, 3) := dk_182 0 165 (dk_at dksX1_fits_0 10 rfl rfl)
theorem dX1_fits_13 : decode cX1_fits 13 = .ok (.ifCond .eq 20, 3) := dk_153 0 20 (dk_at dksX1_fits_0 13 rfl rfl)
theorem dX1_fits_16 : decode cX1_fits 16 = .ok (.aload_n 0, 1) := dk_42 (dk_at dksX1_fits_0 16 rfl rfl)
theorem dX1_fits_17 : decode cX1_fits 17 = .ok (.iload_n 1, 1) := dk_27 (dk_at dksX1_fits_0 17 rfl rfl)
theorem dX1_fits_18 : decode cX1_fits 18 = .ok (.iload_n 2, 1) := dk_28 (dk_at dksX1_fits_0 18 rfl rfl)
theorem dX1_fits_19 : decode cX1_fits 19 = .ok (.invokevirtual 195, 3) := dk_182 0 195 (dk_at dksX1_fits_0 19 rfl rfl)
theorem dX1_fits_22 : decode cX1_fits 22 = .ok (.ifCond .eq 7, 3) := dk_153 0 7 (dk_at dksX1_fits_1 0 rfl rfl)
theorem dX1_fits_25 : decode cX1_fits 25 = .ok (.iconst 1, 1) := dk_4 (dk_at dksX1_fits_1 3 rfl rfl)
theorem dX1_fits_26 : decode cX1_fits 26 = .ok (.goto 8, 3) := dk_167 0 8 (dk_at dksX1_fits_1 4 rfl rfl)
theorem dX1_fits_29 : decode cX1_fits 29 = .ok (.iconst 0, 1) := dk_3 (dk_at dksX1_fits_1 7 rfl rfl)
theorem dX1_fits_30 : decode cX1_fits 30 = .ok (.goto 4, 3) := dk_167 0 4 (dk_at dksX1_fits_1 8 rfl rfl)
theorem dX1_fits_33 : decode cX1_fits 33 = .ok (.iconst (-1), 1) := dk_2 (dk_at dksX1_fits_1 11 rfl rfl)
theorem dX1_fits_34 : decode cX1_fits 34 = .ok (.ireturn, 1) := dk_172 (dk_at dksX1_fits_1 12 rfl rfl)
def dkwX1_doesFit_0 : List UInt8 := [42, 27, 28, 182, 0, 192, 62, 42, 42, 180, 0, 42, 29, 182, 0, 142, 172]
abbrev dktX1_doesFit_0 : List UInt8 := dkwX1_doesFit_0 ++ []
theorem dksX1_doesFit_0 : cX1_doesFit.data.toList.drop 0 = dktX1_doesFit_0 := by decide +kernel
theorem dX1_doesFit_0 : decode cX1_doesFit 0 = .ok (.aload_n 0, 1) := dk_42 (dk_at dksX1_doesFit_0 0 rfl rfl)
theorem dX1_doesFit_1 : decode cX1_doesFit 1 = .ok (.iload_n 1, 1) := dk_27 (dk_at dksX1_doesFit_0 1 rfl rfl)
theorem dX1_doesFit_2 : decode cX1_doesFit 2 = .ok (.iload_n 2, 1) := dk_28 (dk_at dksX1_doesFit_0 2 rfl rfl)
theorem dX1_doesFit_3 : decode cX1_doesFit 3 = .ok (.invokevirtual 192, 3) := dk_182 0 192 (dk_at dksX1_doesFit_0 3 rfl rfl)
theorem dX1_doesFit_6 : decode cX1_doesFit 6 = .ok (.istore_n 3, 1) := dk_62 (dk_at dksX1_doesFit_0 6 rfl rfl)
theorem dX1_doesFit_7 : decode cX1_doesFit 7 = .ok (.aload_n 0, 1) := dk_42 (dk_at dksX1_doesFit_0 7 rfl rfl)
theorem dX1_doesFit_8 : decode cX1_doesFit 8 = .ok (.aload_n 0, 1) := dk_42 (dk_at dksX1_doesFit_0 8 rfl rfl)
theorem dX1_doesFit_9 : decode cX1_doesFit 9 = .ok (.getfield 42, 3) := dk_180 0 42 (dk_at dksX1_doesFit_0 9 rfl rfl)
theorem dX1_doesFit_12 : decode cX1_doesFit 12 = .ok (.iload_n 3, 1) := dk_29 (dk_at dksX1_doesFit_0 12 rfl rfl)
theorem dX1_doesFit_13 : decode cX1_doesFit 13 = .ok (.invokevirtual 142, 3) := dk_182 0 142 (dk_at dksX1_doesFit_0 13 rfl rfl)
theorem dX1_doesFit_16 : decode cX1_doesFit 16 = .ok (.ireturn, 1) := dk_172 (dk_at dksX1_doesFit_0 16 rfl rfl)
def dkwX1_first_1 : List UInt8 := [162, 0, 20, 42, 27, 28, 182, 0, 195, 153, 0, 5, 28, 172, 132, 2, 1, 167, 255, 228, 16, 254, 172]
abbrev dktX1_first_1 : List UInt8 := dkwX1_first_1 ++ []
def dkwX1_first_0 : List UInt8 := [42, 27, 182, 0, 113, 154, 0, 5, 2, 172, 3, 61, 28, 42, 180, 0, 20, 180, 0, 98, 182, 0, 198]
abbrev dktX1_first_0 : List UInt8 := dkwX1_first_0 ++ dktX1_first_1
theorem dksX1_first_0 : cX1_first.data.toList.drop 0 = dktX1_first_0 := by decide +kernel
theorem dksX1_first_1 : cX1_first.data.toList.drop 23 = dktX1_first_1 := dk_seg dksX1_first_0 23 rfl rfl
theorem dX1_first_0 : decode cX1_first 0 = .ok (.aload_n 0, 1) := dk_42 (dk_at dksX1_first_0 0 rfl rfl)
theorem dX1_first_1 : decode cX1_first 1 = .ok (.iload_n 1, 1) := dk_27 (dk_at dksX1_first_0 1 rfl rfl)
theorem dX1_first_2 : decode cX1_first 2 = .ok (.invokevirtual 113, 3) := dk_182 0 113 (dk_at dksX1_first_0 2 rfl rfl)
theorem dX1_first_5 : decode cX1_first 5 = .ok (.ifCond .ne 5, 3) := dk_154 0 5 (dk_at dksX1_first_0 5 rfl rfl)
theorem dX1_first_8 : decode cX1_first 8 = .ok (.iconst (-1), 1) := dk_2 (dk_at dksX1_first_0 8 rfl rfl)
theorem dX1_first_9 : decode cX1_first 9 = .ok (.ireturn, 1) := dk_172 (dk_at dksX1_first_0 9 rfl rfl)
theorem dX1_first_10 : decode cX1_first 10 = .ok (.iconst 0, 1) := dk_3 (dk_at dksX1_first_0 10 rfl rfl)
theorem dX1_first_11 : decode cX1_first 11 = .ok (.istore_n 2, 1) := dk_61 (dk_at dksX1_first_0 11 rfl rfl)
theorem dX1_first_12 : decode cX1_first 12 = .ok (.iload_n 2, 1) := dk_28 (dk_at dksX1_first_0 12 rfl rfl)
theorem dX1_first_13 : decode cX1_first 13 = .ok (.aload_n 0, 1) := dk_42 (dk_at dksX1_first_0 13 rfl rfl)
theorem dX1_first_14 : decode cX1_first 14 = .ok (.getfield 20, 3) := dk_180 0 20 (dk_at dksX1_first_0 14 rfl rfl)
theorem dX1_first_17 : decode cX1_first 17 = .ok (.getfield 98, 3) := dk_180 0 98 (dk_at dksX1_first_0 17 rfl rfl)
theorem dX1_first_20 : decode cX1_first 20 = .ok (.invokevirtual 198, 3) := dk_182 0 198 (dk_at dksX1_first_0 20 rfl rfl)
theorem dX1_first_23 : decode cX1_first 23 = .ok (.if_icmp .ge 20, 3) := dk_162 0 20 (dk_at dksX1_first_1 0 rfl rfl)
theorem dX1_first_26 : decode cX1_first 26 = .ok (.aload_n 0, 1) := dk_42 (dk_at dksX1_first_1 3 rfl rfl)
theorem dX1_first_27 : decode cX1_first 27 = .ok (.iload_n 1, 1) := dk_27 (dk_at dksX1_first_1 4 rfl rfl)
theorem dX1_first_28 : decode cX1_first 28 = .ok (.iload_n 2, 1) := dk_28 (dk_at dksX1_first_1 5 rfl rfl)
theorem dX1_first_29 : decode cX1_first 29 = .ok (.invokevirtual 195, 3) := dk_182 0 195 (dk_at dksX1_first_1 6 rfl rfl)
theorem dX1_first_32 : decode cX1_first 32 = .ok (.ifCond .eq 5, 3) := dk_153 0 5 (dk_at dksX1_first_1 9 rfl rfl)
theorem dX1_first_35 : decode cX1_first 35 = .ok (.iload_n 2, 1) := dk_28 (dk_at dksX1_first_1 12 rfl rfl)
theorem dX1_first_36 : decode cX1_first 36 = .ok (.ireturn, 1) := dk_172 (dk_at dksX1_first_1 13 rfl rfl)
theorem dX1_first_37 : decode cX1_first 37 = .ok (.iinc 2 1, 3) := dk_132 2 1 (dk_at dksX1_first_1 14 rfl rfl)
theorem dX1_first_40 : decode cX1_first 40 = .ok (.goto (-28), 3) := dk_167 255 228 (dk_at dksX1_first_1 17 rfl rfl)
theorem dX1_first_43 : decode cX1_first 43 = .ok (.bipush (-2), 2) := dk_16 254 (dk_at dksX1_first_1 20 rfl rfl)
theorem dX1_first_45 : decode cX1_first 45 = .ok (.ireturn, 1) := dk_172 (dk_at dksX1_first_1 22 rfl rfl)
def dkwX1_seek_4 : List UInt8 := [167, 255, 175, 16, 254, 172]
abbrev dktX1_seek_4 : List UInt8 := dkwX1_seek_4 ++ []
def dkwX1_seek_3 : List UInt8 := [153, 0, 15, 42, 180, 0, 20, 180, 0, 146, 28, 104, 29, 96, 172, 132, 3, 1, 167, 255, 194, 132, 2, 1]
abbrev dktX1_seek_3 : List UInt8 := dkwX1_seek_3 ++ dktX1_seek_4
def dkwX1_seek_2 : List UInt8 := [182, 0, 117, 4, 4, 28, 29, 182, 0, 188, 54, 4, 42, 42, 180, 0, 42, 21, 4, 182, 0, 142]
abbrev dktX1_seek_2 : List UInt8 := dkwX1_seek_2 ++ dktX1_seek_3
def dkwX1_seek_1 : List UInt8 := [62, 29, 42, 180, 0, 20, 180, 0, 146, 162, 0, 57, 28, 29, 160, 0, 6, 167, 0, 43, 42, 42, 27]
abbrev dktX1_seek_1 : List UInt8 := dkwX1_seek_1 ++ dktX1_seek_2
def dkwX1_seek_0 : List UInt8 := [42, 27, 182, 0, 113, 154, 0, 5, 2, 172, 3, 61, 28, 42, 180, 0, 20, 180, 0, 146, 162, 0, 76, 3]
abbrev dktX1_seek_0 : List UInt8 := dkwX1_seek_0 ++ dktX1_seek_1
theorem dksX1_seek_0 : cX1_seek.data.toList.drop 0 = dktX1_seek_0 := by decide +kernel
theorem dksX1_seek_1 : cX1_seek.data.toList.drop 24 = dktX1_seek_1 := dk_seg dksX1_seek_0 24 rfl rfl
theorem dksX1_seek_2 : cX1_seek.data.toList.drop 47 = dktX1_seek_2 := dk_seg dksX1_seek_1 23 rfl rfl
theorem dksX1_seek_3 : cX1_seek.data.toList.drop 69 = dktX1_seek_3 := dk_seg dksX1_seek_2 22 rfl rfl
theorem dksX1_seek_4 : cX1_seek.data.toList.drop 93 = dktX1_seek_4 := dk_seg dksX1_seek_3 24 rfl rfl
theorem dX1_seek_0 : decode cX1_seek 0 = .ok (.aload_n 0, 1) := dk_42 (dk_at dksX1_seek_0 0 rfl rfl)
theorem dX1_seek_1 : decode cX1_seek 1 = .ok (.iload_n 1, 1) := dk_27 (dk_at dksX1_seek_0 1 rfl rfl)
theorem dX1_seek_2 : decode cX1_seek 2 = .ok (.invokevirtual 113, 3) := dk_182 0 113 (dk_at dksX1_seek_0 2 rfl rfl)
theorem dX1_seek_5 : decode cX1_seek 5 = .ok (.ifCond .ne 5, 3) := dk_154 0 5 (dk_at dksX1_seek_0 5 rfl rfl)
theorem dX1_seek_8 : decode cX1_seek 8 = .ok (.iconst (-1), 1) := dk_2 (dk_at dksX1_seek_0 8 rfl rfl)
theorem dX1_seek_9 : decode cX1_seek 9 = .ok (.ireturn, 1) := dk_172 (dk_at dksX1_seek_0 9 rfl rfl)
theorem dX1_seek_10 : decode cX1_seek 10 = .ok (.iconst 0, 1) := dk_3 (dk_at dksX1_seek_0 10 rfl rfl)
theorem dX1_seek_11 : decode cX1_seek 11 = .ok (.istore_n 2, 1) := dk_61 (dk_at dksX1_seek_0 11 rfl rfl)
theorem dX1_seek_12 : decode cX1_seek 12 = .ok (.iload_n 2, 1) := dk_28 (dk_at dksX1_seek_0 12 rfl rfl)
theorem dX1_seek_13 : decode cX1_seek 13 = .ok (.aload_n 0, 1) := dk_42 (dk_at dksX1_seek_0 13 rfl rfl)
theorem dX1_seek_14 : decode cX1_seek 14 = .ok (.getfield 20, 3) := dk_180 0 20 (dk_at dksX1_seek_0 14 rfl rfl)
theorem dX1_seek_17 : decode cX1_seek 17 = .ok (.getfield 146, 3) := dk_180 0 146 (dk_at dksX1_seek_0 17 rfl rfl)
theorem dX1_seek_20 : decode cX1_seek 20 = .ok (.if_icmp .ge 76, 3) := dk_162 0 76 (dk_at dksX1_seek_0 20 rfl rfl)
theorem dX1_seek_23 : decode cX1_seek 23 = .ok (.iconst 0, 1) := dk_3 (dk_at dksX1_seek_0 23 rfl rfl)
theorem dX1_seek_24 : decode cX1_seek 24 = .ok (.istore_n 3, 1) := dk_62 (dk_at dksX1_seek_1 0 rfl rfl)
theorem dX1_seek_25 : decode cX1_seek 25 = .ok (.iload_n 3, 1) := dk_29 (dk_at dksX1_seek_1 1 rfl rfl)
theorem dX1_seek_26 : decode cX1_seek 26 = .ok (.aload_n 0, 1) := dk_42 (dk_at dksX1_seek_1 2 rfl rfl)
theorem dX1_seek_27 : decode cX1_seek 27 = .ok (.getfield 20, 3) := dk_180 0 20 (dk_at dksX1_seek_1 3 rfl rfl)
theorem dX1_seek_30 : decode cX1_seek 30 = .ok (.getfield 146, 3) := dk_180 0 146 (dk_at dksX1_seek_1 6 rfl rfl)
theorem dX1_seek_33 : decode cX1_seek 33 = .ok (.if_icmp .ge 57, 3) := dk_162 0 57 (dk_at dksX1_seek_1 9 rfl rfl)
theorem dX1_seek_36 : decode cX1_seek 36 = .ok (.iload_n 2, 1) := dk_28 (dk_at dksX1_seek_1 12 rfl rfl)
theorem dX1_seek_37 : decode cX1_seek 37 = .ok (.iload_n 3, 1) := dk_29 (dk_at dksX1_seek_1 13 rfl rfl)
theorem dX1_seek_38 : decode cX1_seek 38 = .ok (.if_icmp .ne 6, 3) := dk_160 0 6 (dk_at dksX1_seek_1 14 rfl rfl)
theorem dX1_seek_41 : decode cX1_seek 41 = .ok (.goto 43, 3) := dk_167 0 43 (dk_at dksX1_seek_1 17 rfl rfl)
theorem dX1_seek_44 : decode cX1_seek 44 = .ok (.aload_n 0, 1) := dk_42 (dk_at dksX1_seek_1 20 rfl rfl)
theorem dX1_seek_45 : decode cX1_seek 45 = .ok (.aload_n 0, 1) := dk_42 (dk_at dksX1_seek_1 21 rfl rfl)
theorem dX1_seek_46 : decode cX1_seek 46 = .ok (.iload_n 1, 1) := dk_27 (dk_at dksX1_seek_1 22 rfl rfl)
theorem dX1_seek_47 : decode cX1_seek 47 = .ok (.invokevirtual 117, 3) := dk_182 0 117 (dk_at dksX1_seek_2 0 rfl rfl)
theorem dX1_seek_50 : decode cX1_seek 50 = .ok (.iconst 1, 1) := dk_4 (dk_at dksX1_seek_2 3 rfl rfl)
theorem dX1_seek_51 : decode cX1_seek 51 = .ok (.iconst 1, 1) := dk_4 (dk_at dksX1_seek_2 4 rfl rfl)
theorem dX1_seek_52 : decode cX1_seek 52 = .ok (.iload_n 2, 1) := dk_28 (dk_at dksX1_seek_2 5 rfl rfl)
theorem dX1_seek_53 : decode cX1_seek 53 = .ok (.iload_n 3, 1) := dk_29 (dk_at dksX1_seek_2 6 rfl rfl)
theorem dX1_seek_54 : decode cX1_seek 54 = .ok (.invokevirtual 188, 3) := dk_182 0 188 (dk_at dksX1_seek_2 7 rfl rfl)
theorem dX1_seek_57 : decode cX1_seek 57 = .ok (.istore 4, 2) := dk_54 4 (dk_at dksX1_seek_2 10 rfl rfl)
theorem dX1_seek_59 : decode cX1_seek 59 = .ok (.aload_n 0, 1) := dk_42 (dk_at dksX1_seek_2 12 rfl rfl)
theorem dX1_seek_60 : decode cX1_seek 60 = .ok (.aload_n 0, 1) := dk_42 (dk_at dksX1_seek_2 13 rfl rfl)
theorem dX1_seek_61 : decode cX1_seek 61 = .ok (.getfield 42, 3) := dk_180 0 42 (dk_at dksX1_seek_2 14 rfl rfl)
theorem dX1_seek_64 : decode cX1_seek 64 = .ok (.iload 4, 2) := dk_21 4 (dk_at dksX1_seek_2 17 rfl rfl)
theorem dX1_seek_66 : decode cX1_seek 66 = .ok (.invokevirtual 142, 3) := dk_182 0 142 (dk_at dksX1_seek_2 19 rfl rfl)
theorem dX1_seek_69 : decode cX1_seek 69 = .ok (.ifCond .eq 15, 3) := dk_153 0 15 (dk_at dksX1_seek_3 0 rfl rfl)
theorem dX1_seek_72 : decode cX1_seek 72 = .ok (.aload_n 0, 1) := dk_42 (dk_at dksX1_seek_3 3 rfl rfl)
theorem dX1_seek_73 : decode cX1_seek 73 = .ok (.getfield 20, 3) := dk_180 0 20 (dk_at dksX1_seek_3 4 rfl rfl)
theorem dX1_seek_76 : decode cX1_seek 76 = .ok (.getfield 146, 3) := dk_180 0 146 (dk_at dksX1_seek_3 7 rfl rfl)
theorem dX1_seek_79 : decode cX1_seek 79 = .ok (.iload_n 2, 1) := dk_28 (dk_at dksX1_seek_3 10 rfl rfl)
theorem dX1_seek_80 : decode cX1_seek 80 = .ok (.imul, 1) := dk_104 (dk_at dksX1_seek_3 11 rfl rfl)
theorem dX1_seek_81 : decode cX1_seek 81 = .ok (.iload_n 3, 1) := dk_29 (dk_at dksX1_seek_3 12 rfl rfl)
theorem dX1_seek_82 : decode cX1_seek 82 = .ok (.iadd, 1) := dk_96 (dk_at dksX1_seek_3 13 rfl rfl)
theorem dX1_seek_83 : decode cX1_seek 83 = .ok (.ireturn, 1) := dk_172 (dk_at dksX1_seek_3 14 rfl rfl)
theorem dX1_seek_84 : decode cX1_seek 84 = .ok (.iinc 3 1, 3) := dk_132 3 1 (dk_at dksX1_seek_3 15 rfl rfl)
theorem dX1_seek_87 : decode cX1_seek 87 = .ok (.goto (-62), 3) := dk_167 255 194 (dk_at dksX1_seek_3 18 rfl rfl)
theorem dX1_seek_90 : decode cX1_seek 90 = .ok (.iinc 2 1, 3) := dk_132 2 1 (dk_at dksX1_seek_3 21 rfl rfl)
theorem dX1_seek_93 : decode cX1_seek 93 = .ok (.goto (-81), 3) := dk_167 255 175 (dk_at dksX1_seek_4 0 rfl rfl)
theorem dX1_seek_96 : decode cX1_seek 96 = .ok (.bipush (-2), 2) := dk_16 254 (dk_at dksX1_seek_4 3 rfl rfl)
theorem dX1_seek_98 : decode cX1_seek 98 = .ok (.ireturn, 1) := dk_172 (dk_at dksX1_seek_4 5 rfl rfl)
def dkwX1_node_2 : List UInt8 := [180, 0, 27, 180, 0, 211, 27, 50, 28, 46, 167, 0, 5, 16, 254, 172]
abbrev dktX1_node_2 : List UInt8 := dkwX1_node_2 ++ []
def dkwX1_node_1 : List UInt8 := [28, 133, 9, 42, 180, 0, 27, 180, 0, 211, 27, 50, 190, 4, 100, 133, 184, 0, 61, 153, 0, 17, 42]
abbrev dktX1_node_1 : List UInt8 := dkwX1_node_1 ++ dktX1_node_2
def dkwX1_node_0 : List UInt8 := [42, 27, 182, 0, 205, 154, 0, 6, 16, 254, 172, 28, 2, 160, 0, 11, 42, 27, 182, 0, 208, 167, 0, 41]
abbrev dktX1_node_0 : List UInt8 := dkwX1_node_0 ++ dktX1_node_1
theorem dksX1_node_0 : cX1_node.data.toList.drop 0 = dktX1_node_0 := by decide +kernel
theorem dksX1_node_1 : cX1_node.data.toList.drop 24 = dktX1_node_1 := dk_seg dksX1_node_0 24 rfl rfl
theorem dksX1_node_2 : cX1_node.data.toList.drop 47 = dktX1_node_2 := dk_seg dksX1_node_1 23 rfl rfl
theorem dX1_node_0 : decode cX1_node 0 = .ok (.aload_n 0, 1) := dk_42 (dk_at dksX1_node_0 0 rfl rfl)
theorem dX1_node_1 : decode cX1_node 1 = .ok (.iload_n 1, 1) := dk_27 (dk_at dksX1_node_0 1 rfl rfl)
theorem dX1_node_2 : decode cX1_node 2 = .ok (.invokevirtual 205, 3) := dk_182 0 205 (dk_at dksX1_node_0 2 rfl rfl)
theorem dX1_node_5 : decode cX1_node 5 = .ok (.ifCond .ne 6, 3) := dk_154 0 6 (dk_at dksX1_node_0 5 rfl rfl)
theorem dX1_node_8 : decode cX1_node 8 = .ok (.bipush (-2), 2) := dk_16 254 (dk_at dksX1_node_0 8 rfl rfl)
theorem dX1_node_10 : decode cX1_node 10 = .ok (.ireturn, 1) := dk_172 (dk_at dksX1_node_0 10 rfl rfl)
theorem dX1_node_11 : decode cX1_node 11 = .ok (.iload_n 2, 1) := dk_28 (dk_at dksX1_node_0 11 rfl rfl)
theorem dX1_node_12 : decode cX1_node 12 = .ok (.iconst (-1), 1) := dk_2 (dk_at dksX1_node_0 12 rfl rfl)
theorem dX1_node_13 : decode cX1_node 13 = .ok (.if_icmp .ne 11, 3) := dk_160 0 11 (dk_at dksX1_node_0 13 rfl rfl)
theorem dX1_node_16 : decode cX1_node 16 = .ok (.aload_n 0, 1) := dk_42 (dk_at dksX1_node_0 16 rfl rfl)
theorem dX1_node_17 : decode cX1_node 17 = .ok (.iload_n 1, 1) := dk_27 (dk_at dksX1_node_0 17 rfl rfl)
theorem dX1_node_18 : decode cX1_node 18 = .ok (.invokevirtual 208, 3) := dk_182 0 208 (dk_at dksX1_node_0 18 rfl rfl)
theorem dX1_node_21 : decode cX1_node 21 = .ok (.goto 41, 3) := dk_167 0 41 (dk_at dksX1_node_0 21 rfl rfl)
theorem dX1_node_24 : decode cX1_node 24 = .ok (.iload_n 2, 1) := dk_28 (dk_at dksX1_node_1 0 rfl rfl)
theorem dX1_node_25 : decode cX1_node 25 = .ok (.i2l, 1) := dk_133 (dk_at dksX1_node_1 1 rfl rfl)
theorem dX1_node_26 : decode cX1_node 26 = .ok (.lconst 0, 1) := dk_9 (dk_at dksX1_node_1 2 rfl rfl)
theorem dX1_node_27 : decode cX1_node 27 = .ok (.aload_n 0, 1) := dk_42 (dk_at dksX1_node_1 3 rfl rfl)
theorem dX1_node_28 : decode cX1_node 28 = .ok (.getfield 27, 3) := dk_180 0 27 (dk_at dksX1_node_1 4 rfl rfl)
theorem dX1_node_31 : decode cX1_node 31 = .ok (.getfield 211, 3) := dk_180 0 211 (dk_at dksX1_node_1 7 rfl rfl)
theorem dX1_node_34 : decode cX1_node 34 = .ok (.iload_n 1, 1) := dk_27 (dk_at dksX1_node_1 10 rfl rfl)
theorem dX1_node_35 : decode cX1_node 35 = .ok (.aaload, 1) := dk_50 (dk_at dksX1_node_1 11 rfl rfl)
theorem dX1_node_36 : decode cX1_node 36 = .ok (.arraylength, 1) := dk_190 (dk_at dksX1_node_1 12 rfl rfl)
theorem dX1_node_37 : decode cX1_node 37 = .ok (.iconst 1, 1) := dk_4 (dk_at dksX1_node_1 13 rfl rfl)
theorem dX1_node_38 : decode cX1_node 38 = .ok (.isub, 1) := dk_100 (dk_at dksX1_node_1 14 rfl rfl)
theorem dX1_node_39 : decode cX1_node 39 = .ok (.i2l, 1) := dk_133 (dk_at dksX1_node_1 15 rfl rfl)
theorem dX1_node_40 : decode cX1_node 40 = .ok (.invokestatic 61, 3) := dk_184 0 61 (dk_at dksX1_node_1 16 rfl rfl)
theorem dX1_node_43 : decode cX1_node 43 = .ok (.ifCond .eq 17, 3) := dk_153 0 17 (dk_at dksX1_node_1 19 rfl rfl)
theorem dX1_node_46 : decode cX1_node 46 = .ok (.aload_n 0, 1) := dk_42 (dk_at dksX1_node_1 22 rfl rfl)
theorem dX1_node_47 : decode cX1_node 47 = .ok (.getfield 27, 3) := dk_180 0 27 (dk_at dksX1_node_2 0 rfl rfl)
theorem dX1_node_50 : decode cX1_node 50 = .ok (.getfield 211, 3) := dk_180 0 211 (dk_at dksX1_node_2 3 rfl rfl)
theorem dX1_node_53 : decode cX1_node 53 = .ok (.iload_n 1, 1) := dk_27 (dk_at dksX1_node_2 6 rfl rfl)
theorem dX1_node_54 : decode cX1_node 54 = .ok (.aaload, 1) := dk_50 (dk_at dksX1_node_2 7 rfl rfl)
theorem dX1_node_55 : decode cX1_node 55 = .ok (.iload_n 2, 1) := dk_28 (dk_at dksX1_node_2 8 rfl rfl)
theorem dX1_node_56 : decode cX1_node 56 = .ok (.iaload, 1) := dk_46 (dk_at dksX1_node_2 9 rfl rfl)
theorem dX1_node_57 : decode cX1_node 57 = .ok (.goto 5, 3) := dk_167 0 5 (dk_at dksX1_node_2 10 rfl rfl)
theorem dX1_node_60 : decode cX1_node 60 = .ok (.bipush (-2), 2) := dk_16 254 (dk_at dksX1_node_2 13 rfl rfl)
theorem dX1_node_62 : decode cX1_node 62 = .ok (.ireturn, 1) := dk_172 (dk_at dksX1_node_2 15 rfl rfl)
def dkwX1_isNode_0 : List UInt8 := [42, 180, 0, 20, 180, 0, 101, 27, 184, 0, 92, 172]
abbrev dktX1_isNode_0 : List UInt8 := dkwX1_isNode_0 ++ []
theorem dksX1_isNode_0 : cX1_isNode.data.toList.drop 0 = dktX1_isNode_0 := by decide +kernel
theorem dX1_isNode_0 : decode cX1_isNode 0 = .ok (.aload_n 0, 1) := dk_42 (dk_at dksX1_isNode_0 0 rfl rfl)
theorem dX1_isNode_1 : decode cX1_isNode 1 = .ok (.getfield 20, 3) := dk_180 0 20 (dk_at dksX1_isNode_0 1 rfl rfl)
theorem dX1_isNode_4 : decode cX1_isNode 4 = .ok (.getfield 101, 3) := dk_180 0 101 (dk_at dksX1_isNode_0 4 rfl rfl)
theorem dX1_isNode_7 : decode cX1_isNode 7 = .ok (.iload_n 1, 1) := dk_27 (dk_at dksX1_isNode_0 7 rfl rfl)
theorem dX1_isNode_8 : decode cX1_isNode 8 = .ok (.invokestatic 92, 3) := dk_184 0 92 (dk_at dksX1_isNode_0 8 rfl rfl)
theorem dX1_isNode_11 : decode cX1_isNode 11 = .ok (.ireturn, 1) := dk_172 (dk_at dksX1_isNode_0 11 rfl rfl)
def dkwX1_legs_0 : List UInt8 := [42, 180, 0, 20, 180, 0, 101, 27, 182, 0, 107, 192, 0, 199, 180, 0, 201, 180, 0, 121, 172]
abbrev dktX1_legs_0 : List UInt8 := dkwX1_legs_0 ++ []
theorem dksX1_legs_0 : cX1_legs.data.toList.drop 0 = dktX1_legs_0 := by decide +kernel
theorem dX1_legs_0 : decode cX1_legs 0 = .ok (.aload_n 0, 1) := dk_42 (dk_at dksX1_legs_0 0 rfl rfl)
theorem dX1_legs_1 : decode cX1_legs 1 = .ok (.getfield 20, 3) := dk_180 0 20 (dk_at dksX1_legs_0 1 rfl rfl)
theorem dX1_legs_4 : decode cX1_legs 4 = .ok (.getfield 101, 3) := dk_180 0 101 (dk_at dksX1_legs_0 4 rfl rfl)
theorem dX1_legs_7 : decode cX1_legs 7 = .ok (.iload_n 1, 1) := dk_27 (dk_at dksX1_legs_0 7 rfl rfl)
theorem dX1_legs_8 : decode cX1_legs 8 = .ok (.invokevirtual 107, 3) := dk_182 0 107 (dk_at dksX1_legs_0 8 rfl rfl)
theorem dX1_legs_11 : decode cX1_legs 11 = .ok (.checkcast 199, 3) := dk_192 0 199 (dk_at dksX1_legs_0 11 rfl rfl)
theorem dX1_legs_14 : decode cX1_legs 14 = .ok (.getfield 201, 3) := dk_180 0 201 (dk_at dksX1_legs_0 14 rfl rfl)
theorem dX1_legs_17 : decode cX1_legs 17 = .ok (.getfield 121, 3) := dk_180 0 121 (dk_at dksX1_legs_0 17 rfl rfl)
theorem dX1_legs_20 : decode cX1_legs 20 = .ok (.ireturn, 1) := dk_172 (dk_at dksX1_legs_0 20 rfl rfl)
def dkwX1_open_3 : List UInt8 := [132, 4, 1, 167, 255, 216, 132, 3, 1, 167, 255, 193, 16, 254, 172]
abbrev dktX1_open_3 : List UInt8 := dkwX1_open_3 ++ []
def dkwX1_open_2 : List UInt8 := [184, 0, 153, 154, 0, 6, 167, 0, 18, 28, 154, 0, 11, 16, 10, 29, 104, 21, 4, 96, 172, 132, 2, 255]
abbrev dktX1_open_2 : List UInt8 := dkwX1_open_2 ++ dktX1_open_3
def dkwX1_open_1 : List UInt8 := [182, 0, 198, 162, 0, 55, 3, 54, 4, 21, 4, 7, 162, 0, 40, 42, 29, 182, 0, 236, 21, 4]
abbrev dktX1_open_1 : List UInt8 := dkwX1_open_1 ++ dktX1_open_2
def dkwX1_open_0 : List UInt8 := [27, 2, 160, 0, 8, 42, 182, 0, 239, 172, 27, 61, 3, 62, 29, 42, 180, 0, 20, 180, 0, 101]
abbrev dktX1_open_0 : List UInt8 := dkwX1_open_0 ++ dktX1_open_1
theorem dksX1_open_0 : cX1_open.data.toList.drop 0 = dktX1_open_0 := by decide +kernel
theorem dksX1_open_1 : cX1_open.data.toList.drop 22 = dktX1_open_1 := dk_seg dksX1_open_0 22 rfl rfl
theorem dksX1_open_2 : cX1_open.data.toList.drop 44 = dktX1_open_2 := dk_seg dksX1_open_1 22 rfl rfl
theorem dksX1_open_3 : cX1_open.data.toList.drop 68 = dktX1_open_3 := dk_seg dksX1_open_2 24 rfl rfl
theorem dX1_open_0 : decode cX1_open 0 = .ok (.iload_n 1, 1) := dk_27 (dk_at dksX1_open_0 0 rfl rfl)
theorem dX1_open_1 : decode cX1_open 1 = .ok (.iconst (-1), 1) := dk_2 (dk_at dksX1_open_0 1 rfl rfl)
theorem dX1_open_2 : decode cX1_open 2 = .ok (.if_icmp .ne 8, 3) := dk_160 0 8 (dk_at dksX1_open_0 2 rfl rfl)
theorem dX1_open_5 : decode cX1_open 5 = .ok (.aload_n 0, 1) := dk_42 (dk_at dksX1_open_0 5 rfl rfl)
theorem dX1_open_6 : decode cX1_open 6 = .ok (.invokevirtual 239, 3) := dk_182 0 239 (dk_at dksX1_open_0 6 rfl rfl)
theorem dX1_open_9 : decode cX1_open 9 = .ok (.ireturn, 1) := dk_172 (dk_at dksX1_open_0 9 rfl rfl)
theorem dX1_open_10 : decode cX1_open 10 = .ok (.iload_n 1, 1) := dk_27 (dk_at dksX1_open_0 10 rfl rfl)
theorem dX1_open_11 : decode cX1_open 11 = .ok (.istore_n 2, 1) := dk_61 (dk_at dksX1_open_0 11 rfl rfl)
theorem dX1_open_12 : decode cX1_open 12 = .ok (.iconst 0, 1) := dk_3 (dk_at dksX1_open_0 12 rfl rfl)
theorem dX1_open_13 : decode cX1_open 13 = .ok (.istore_n 3, 1) := dk_62 (dk_at dksX1_open_0 13 rfl rfl)
theorem dX1_open_14 : decode cX1_open 14 = .ok (.iload_n 3, 1) := dk_29 (dk_at dksX1_open_0 14 rfl rfl)
theorem dX1_open_15 : decode cX1_open 15 = .ok (.aload_n 0, 1) := dk_42 (dk_at dksX1_open_0 15 rfl rfl)
theorem dX1_open_16 : decode cX1_open 16 = .ok (.getfield 20, 3) := dk_180 0 20 (dk_at dksX1_open_0 16 rfl rfl)
theorem dX1_open_19 : decode cX1_open 19 = .ok (.getfield 101, 3) := dk_180 0 101 (dk_at dksX1_open_0 19 rfl rfl)
theorem dX1_open_22 : decode cX1_open 22 = .ok (.invokevirtual 198, 3) := dk_182 0 198 (dk_at dksX1_open_1 0 rfl rfl)
theorem dX1_open_25 : decode cX1_open 25 = .ok (.if_icmp .ge 55, 3) := dk_162 0 55 (dk_at dksX1_open_1 3 rfl rfl)
theorem dX1_open_28 : decode cX1_open 28 = .ok (.iconst 0, 1) := dk_3 (dk_at dksX1_open_1 6 rfl rfl)
theorem dX1_open_29 : decode cX1_open 29 = .ok (.istore 4, 2) := dk_54 4 (dk_at dksX1_open_1 7 rfl rfl)
theorem dX1_open_31 : decode cX1_open 31 = .ok (.iload 4, 2) := dk_21 4 (dk_at dksX1_open_1 9 rfl rfl)
theorem dX1_open_33 : decode cX1_open 33 = .ok (.iconst 4, 1) := dk_7 (dk_at dksX1_open_1 11 rfl rfl)
theorem dX1_open_34 : decode cX1_open 34 = .ok (.if_icmp .ge 40, 3) := dk_162 0 40 (dk_at dksX1_open_1 12 rfl rfl)
theorem dX1_open_37 : decode cX1_open 37 = .ok (.aload_n 0, 1) := dk_42 (dk_at dksX1_open_1 15 rfl rfl)
theorem dX1_open_38 : decode cX1_open 38 = .ok (.iload_n 3, 1) := dk_29 (dk_at dksX1_open_1 16 rfl rfl)
theorem dX1_open_39 : decode cX1_open 39 = .ok (.invokevirtual 236, 3) := dk_182 0 236 (dk_at dksX1_open_1 17 rfl rfl)
theorem dX1_open_42 : decode cX1_open 42 = .ok (.iload 4, 2) := dk_21 4 (dk_at dksX1_open_1 20 rfl rfl)
theorem dX1_open_44 : decode cX1_open 44 = .ok (.invokestatic 153, 3) := dk_184 0 153 (dk_at dksX1_open_2 0 rfl rfl)
theorem dX1_open_47 : decode cX1_open 47 = .ok (.ifCond .ne 6, 3) := dk_154 0 6 (dk_at dksX1_open_2 3 rfl rfl)
theorem dX1_open_50 : decode cX1_open 50 = .ok (.goto 18, 3) := dk_167 0 18 (dk_at dksX1_open_2 6 rfl rfl)
theorem dX1_open_53 : decode cX1_open 53 = .ok (.iload_n 2, 1) := dk_28 (dk_at dksX1_open_2 9 rfl rfl)
theorem dX1_open_54 : decode cX1_open 54 = .ok (.ifCond .ne 11, 3) := dk_154 0 11 (dk_at dksX1_open_2 10 rfl rfl)
theorem dX1_open_57 : decode cX1_open 57 = .ok (.bipush 10, 2) := dk_16 10 (dk_at dksX1_open_2 13 rfl rfl)
theorem dX1_open_59 : decode cX1_open 59 = .ok (.iload_n 3, 1) := dk_29 (dk_at dksX1_open_2 15 rfl rfl)
theorem dX1_open_60 : decode cX1_open 60 = .ok (.imul, 1) := dk_104 (dk_at dksX1_open_2 16 rfl rfl)
theorem dX1_open_61 : decode cX1_open 61 = .ok (.iload 4, 2) := dk_21 4 (dk_at dksX1_open_2 17 rfl rfl)
theorem dX1_open_63 : decode cX1_open 63 = .ok (.iadd, 1) := dk_96 (dk_at dksX1_open_2 19 rfl rfl)
theorem dX1_open_64 : decode cX1_open 64 = .ok (.ireturn, 1) := dk_172 (dk_at dksX1_open_2 20 rfl rfl)
theorem dX1_open_65 : decode cX1_open 65 = .ok (.iinc 2 (-1), 3) := dk_132 2 255 (dk_at dksX1_open_2 21 rfl rfl)
theorem dX1_open_68 : decode cX1_open 68 = .ok (.iinc 4 1, 3) := dk_132 4 1 (dk_at dksX1_open_3 0 rfl rfl)
theorem dX1_open_71 : decode cX1_open 71 = .ok (.goto (-40), 3) := dk_167 255 216 (dk_at dksX1_open_3 3 rfl rfl)
theorem dX1_open_74 : decode cX1_open 74 = .ok (.iinc 3 1, 3) := dk_132 3 1 (dk_at dksX1_open_3 6 rfl rfl)
theorem dX1_open_77 : decode cX1_open 77 = .ok (.goto (-63), 3) := dk_167 255 193 (dk_at dksX1_open_3 9 rfl rfl)
theorem dX1_open_80 : decode cX1_open 80 = .ok (.bipush (-2), 2) := dk_16 254 (dk_at dksX1_open_3 12 rfl rfl)
theorem dX1_open_82 : decode cX1_open 82 = .ok (.ireturn, 1) := dk_172 (dk_at dksX1_open_3 14 rfl rfl)
def dkwX1_openMany_1 : List UInt8 := [182, 0, 236, 46, 96, 60, 132, 2, 1, 167, 255, 227, 27, 172]
abbrev dktX1_openMany_1 : List UInt8 := dkwX1_openMany_1 ++ []
def dkwX1_openMany_0 : List UInt8 := [3, 60, 3, 61, 28, 42, 180, 0, 20, 180, 0, 101, 182, 0, 198, 162, 0, 21, 27, 178, 0, 127, 42, 28]
abbrev dktX1_openMany_0 : List UInt8 := dkwX1_openMany_0 ++ dktX1_openMany_1
theorem dksX1_openMany_0 : cX1_openMany.data.toList.drop 0 = dktX1_openMany_0 := by decide +kernel
theorem dksX1_openMany_1 : cX1_openMany.data.toList.drop 24 = dktX1_openMany_1 := dk_seg dksX1_openMany_0 24 rfl rfl
theorem dX1_openMany_0 : decode cX1_openMany 0 = .ok (.iconst 0, 1) := dk_3 (dk_at dksX1_openMany_0 0 rfl rfl)
theorem dX1_openMany_1 : decode cX1_openMany 1 = .ok (.istore_n 1, 1) := dk_60 (dk_at dksX1_openMany_0 1 rfl rfl)
theorem dX1_openMany_2 : decode cX1_openMany 2 = .ok (.iconst 0, 1) := dk_3 (dk_at dksX1_openMany_0 2 rfl rfl)
theorem dX1_openMany_3 : decode cX1_openMany 3 = .ok (.istore_n 2, 1) := dk_61 (dk_at dksX1_openMany_0 3 rfl rfl)
theorem dX1_openMany_4 : decode cX1_openMany 4 = .ok (.iload_n 2, 1) := dk_28 (dk_at dksX1_openMany_0 4 rfl rfl)
theorem dX1_openMany_5 : decode cX1_openMany 5 = .ok (.aload_n 0, 1) := dk_42 (dk_at dksX1_openMany_0 5 rfl rfl)
theorem dX1_openMany_6 : decode cX1_openMany 6 = .ok (.getfield 20, 3) := dk_180 0 20 (dk_at dksX1_openMany_0 6 rfl rfl)
theorem dX1_openMany_9 : decode cX1_openMany 9 = .ok (.getfield 101, 3) := dk_180 0 101 (dk_at dksX1_openMany_0 9 rfl rfl)
theorem dX1_openMany_12 : decode cX1_openMany 12 = .ok (.invokevirtual 198, 3) := dk_182 0 198 (dk_at dksX1_openMany_0 12 rfl rfl)
theorem dX1_openMany_15 : decode cX1_openMany 15 = .ok (.if_icmp .ge 21, 3) := dk_162 0 21 (dk_at dksX1_openMany_0 15 rfl rfl)
theorem dX1_openMany_18 : decode cX1_openMany 18 = .ok (.iload_n 1, 1) := dk_27 (dk_at dksX1_openMany_0 18 rfl rfl)
theorem dX1_openMany_19 : decode cX1_openMany 19 = .ok (.getstatic 127, 3) := dk_178 0 127 (dk_at dksX1_openMany_0 19 rfl rfl)
theorem dX1_openMany_22 : decode cX1_openMany 22 = .ok (.aload_n 0, 1) := dk_42 (dk_at dksX1_openMany_0 22 rfl rfl)
theorem dX1_openMany_23 : decode cX1_openMany 23 = .ok (.iload_n 2, 1) := dk_28 (dk_at dksX1_openMany_0 23 rfl rfl)
theorem dX1_openMany_24 : decode cX1_openMany 24 = .ok (.invokevirtual 236, 3) := dk_182 0 236 (dk_at dksX1_openMany_1 0 rfl rfl)
theorem dX1_openMany_27 : decode cX1_openMany 27 = .ok (.iaload, 1) := dk_46 (dk_at dksX1_openMany_1 3 rfl rfl)
theorem dX1_openMany_28 : decode cX1_openMany 28 = .ok (.iadd, 1) := dk_96 (dk_at dksX1_openMany_1 4 rfl rfl)
theorem dX1_openMany_29 : decode cX1_openMany 29 = .ok (.istore_n 1, 1) := dk_60 (dk_at dksX1_openMany_1 5 rfl rfl)
theorem dX1_openMany_30 : decode cX1_openMany 30 = .ok (.iinc 2 1, 3) := dk_132 2 1 (dk_at dksX1_openMany_1 6 rfl rfl)
theorem dX1_openMany_33 : decode cX1_openMany 33 = .ok (.goto (-29), 3) := dk_167 255 227 (dk_at dksX1_openMany_1 9 rfl rfl)
theorem dX1_openMany_36 : decode cX1_openMany 36 = .ok (.iload_n 1, 1) := dk_27 (dk_at dksX1_openMany_1 12 rfl rfl)
theorem dX1_openMany_37 : decode cX1_openMany 37 = .ok (.ireturn, 1) := dk_172 (dk_at dksX1_openMany_1 13 rfl rfl)
def dkwX1_openOf_0 : List UInt8 := [4, 42, 27, 182, 0, 208, 120, 4, 100, 42, 180, 0, 27, 180, 0, 233, 27, 46, 2, 130, 126, 172]
abbrev dktX1_openOf_0 : List UInt8 := dkwX1_openOf_0 ++ []
theorem dksX1_openOf_0 : cX1_openOf.data.toList.drop 0 = dktX1_openOf_0 := by decide +kernel
theorem dX1_openOf_0 : decode cX1_openOf 0 = .ok (.iconst 1, 1) := dk_4 (dk_at dksX1_openOf_0 0 rfl rfl)
theorem dX1_openOf_1 : decode cX1_openOf 1 = .ok (.aload_n 0, 1) := dk_42 (dk_at dksX1_openOf_0 1 rfl rfl)
theorem dX1_openOf_2 : decode cX1_openOf 2 = .ok (.iload_n 1, 1) := dk_27 (dk_at dksX1_openOf_0 2 rfl rfl)
theorem dX1_openOf_3 : decode cX1_openOf 3 = .ok (.invokevirtual 208, 3) := dk_182 0 208 (dk_at dksX1_openOf_0 3 rfl rfl)
theorem dX1_openOf_6 : decode cX1_openOf 6 = .ok (.ishl, 1) := dk_120 (dk_at dksX1_openOf_0 6 rfl rfl)
theorem dX1_openOf_7 : decode cX1_openOf 7 = .ok (.iconst 1, 1) := dk_4 (dk_at dksX1_openOf_0 7 rfl rfl)
theorem dX1_openOf_8 : decode cX1_openOf 8 = .ok (.isub, 1) := dk_100 (dk_at dksX1_openOf_0 8 rfl rfl)
theorem dX1_openOf_9 : decode cX1_openOf 9 = .ok (.aload_n 0, 1) := dk_42 (dk_at dksX1_openOf_0 9 rfl rfl)
theorem dX1_openOf_10 : decode cX1_openOf 10 = .ok (.getfield 27, 3) := dk_180 0 27 (dk_at dksX1_openOf_0 10 rfl rfl)
theorem dX1_openOf_13 : decode cX1_openOf 13 = .ok (.getfield 233, 3) := dk_180 0 233 (dk_at dksX1_openOf_0 13 rfl rfl)
theorem dX1_openOf_16 : decode cX1_openOf 16 = .ok (.iload_n 1, 1) := dk_27 (dk_at dksX1_openOf_0 16 rfl rfl)
theorem dX1_openOf_17 : decode cX1_openOf 17 = .ok (.iaload, 1) := dk_46 (dk_at dksX1_openOf_0 17 rfl rfl)
theorem dX1_openOf_18 : decode cX1_openOf 18 = .ok (.iconst (-1), 1) := dk_2 (dk_at dksX1_openOf_0 18 rfl rfl)
theorem dX1_openOf_19 : decode cX1_openOf 19 = .ok (.ixor, 1) := dk_130 (dk_at dksX1_openOf_0 19 rfl rfl)
theorem dX1_openOf_20 : decode cX1_openOf 20 = .ok (.iand, 1) := dk_126 (dk_at dksX1_openOf_0 20 rfl rfl)
theorem dX1_openOf_21 : decode cX1_openOf 21 = .ok (.ireturn, 1) := dk_172 (dk_at dksX1_openOf_0 21 rfl rfl)
def dkwX1_sum_1 : List UInt8 := [182, 0, 254, 182, 1, 2, 42, 180, 0, 20, 42, 180, 0, 245, 182, 0, 134, 172]
abbrev dktX1_sum_1 : List UInt8 := dkwX1_sum_1 ++ []
def dkwX1_sum_0 : List UInt8 := [42, 27, 182, 0, 242, 154, 0, 5, 2, 172, 42, 9, 181, 0, 245, 187, 0, 249, 89, 42, 183, 0, 251, 27]
abbrev dktX1_sum_0 : List UInt8 := dkwX1_sum_0 ++ dktX1_sum_1
theorem dksX1_sum_0 : cX1_sum.data.toList.drop 0 = dktX1_sum_0 := by decide +kernel
theorem dksX1_sum_1 : cX1_sum.data.toList.drop 24 = dktX1_sum_1 := dk_seg dksX1_sum_0 24 rfl rfl
theorem dX1_sum_0 : decode cX1_sum 0 = .ok (.aload_n 0, 1) := dk_42 (dk_at dksX1_sum_0 0 rfl rfl)
theorem dX1_sum_1 : decode cX1_sum 1 = .ok (.iload_n 1, 1) := dk_27 (dk_at dksX1_sum_0 1 rfl rfl)
theorem dX1_sum_2 : decode cX1_sum 2 = .ok (.invokevirtual 242, 3) := dk_182 0 242 (dk_at dksX1_sum_0 2 rfl rfl)
theorem dX1_sum_5 : decode cX1_sum 5 = .ok (.ifCond .ne 5, 3) := dk_154 0 5 (dk_at dksX1_sum_0 5 rfl rfl)
theorem dX1_sum_8 : decode cX1_sum 8 = .ok (.iconst (-1), 1) := dk_2 (dk_at dksX1_sum_0 8 rfl rfl)
theorem dX1_sum_9 : decode cX1_sum 9 = .ok (.ireturn, 1) := dk_172 (dk_at dksX1_sum_0 9 rfl rfl)
theorem dX1_sum_10 : decode cX1_sum 10 = .ok (.aload_n 0, 1) := dk_42 (dk_at dksX1_sum_0 10 rfl rfl)
theorem dX1_sum_11 : decode cX1_sum 11 = .ok (.lconst 0, 1) := dk_9 (dk_at dksX1_sum_0 11 rfl rfl)
theorem dX1_sum_12 : decode cX1_sum 12 = .ok (.putfield 245, 3) := dk_181 0 245 (dk_at dksX1_sum_0 12 rfl rfl)
theorem dX1_sum_15 : decode cX1_sum 15 = .ok (.new 249, 3) := dk_187 0 249 (dk_at dksX1_sum_0 15 rfl rfl)
theorem dX1_sum_18 : decode cX1_sum 18 = .ok (.dup, 1) := dk_89 (dk_at dksX1_sum_0 18 rfl rfl)
theorem dX1_sum_19 : decode cX1_sum 19 = .ok (.aload_n 0, 1) := dk_42 (dk_at dksX1_sum_0 19 rfl rfl)
theorem dX1_sum_20 : decode cX1_sum 20 = .ok (.invokespecial 251, 3) := dk_183 0 251 (dk_at dksX1_sum_0 20 rfl rfl)
theorem dX1_sum_23 : decode cX1_sum 23 = .ok (.iload_n 1, 1) := dk_27 (dk_at dksX1_sum_0 23 rfl rfl)
theorem dX1_sum_24 : decode cX1_sum 24 = .ok (.invokevirtual 254, 3) := dk_182 0 254 (dk_at dksX1_sum_1 0 rfl rfl)
theorem dX1_sum_27 : decode cX1_sum 27 = .ok (.invokevirtual 258, 3) := dk_182 1 2 (dk_at dksX1_sum_1 3 rfl rfl)
theorem dX1_sum_30 : decode cX1_sum 30 = .ok (.aload_n 0, 1) := dk_42 (dk_at dksX1_sum_1 6 rfl rfl)
theorem dX1_sum_31 : decode cX1_sum 31 = .ok (.getfield 20, 3) := dk_180 0 20 (dk_at dksX1_sum_1 7 rfl rfl)
theorem dX1_sum_34 : decode cX1_sum 34 = .ok (.aload_n 0, 1) := dk_42 (dk_at dksX1_sum_1 10 rfl rfl)
theorem dX1_sum_35 : decode cX1_sum 35 = .ok (.getfield 245, 3) := dk_180 0 245 (dk_at dksX1_sum_1 11 rfl rfl)
theorem dX1_sum_38 : decode cX1_sum 38 = .ok (.invokevirtual 134, 3) := dk_182 0 134 (dk_at dksX1_sum_1 14 rfl rfl)
theorem dX1_sum_41 : decode cX1_sum 41 = .ok (.ireturn, 1) := dk_172 (dk_at dksX1_sum_1 17 rfl rfl)
def dkwX1_isIndex_0 : List UInt8 := [27, 155, 0, 19, 27, 133, 10, 42, 182, 0, 239, 121, 148, 156, 0, 7, 4, 167, 0, 4, 3, 172]
abbrev dktX1_isIndex_0 : List UInt8 := dkwX1_isIndex_0 ++ []
theorem dksX1_isIndex_0 : cX1_isIndex.data.toList.drop 0 = dktX1_isIndex_0 := by decide +kernel
theorem dX1_isIndex_0 : decode cX1_isIndex 0 = .ok (.iload_n 1, 1) := dk_27 (dk_at dksX1_isIndex_0 0 rfl rfl)
theorem dX1_isIndex_1 : decode cX1_isIndex 1 = .ok (.ifCond .lt 19, 3) := dk_155 0 19 (dk_at dksX1_isIndex_0 1 rfl rfl)
theorem dX1_isIndex_4 : decode cX1_isIndex 4 = .ok (.iload_n 1, 1) := dk_27 (dk_at dksX1_isIndex_0 4 rfl rfl)
theorem dX1_isIndex_5 : decode cX1_isIndex 5 = .ok (.i2l, 1) := dk_133 (dk_at dksX1_isIndex_0 5 rfl rfl)
theorem dX1_isIndex_6 : decode cX1_isIndex 6 = .ok (.lconst 1, 1) := dk_10 (dk_at dksX1_isIndex_0 6 rfl rfl)
theorem dX1_isIndex_7 : decode cX1_isIndex 7 = .ok (.aload_n 0, 1) := dk_42 (dk_at dksX1_isIndex_0 7 rfl rfl)
theorem dX1_isIndex_8 : decode cX1_isIndex 8 = .ok (.invokevirtual 239, 3) := dk_182 0 239 (dk_at dksX1_isIndex_0 8 rfl rfl)
theorem dX1_isIndex_11 : decode cX1_isIndex 11 = .ok (.lshl, 1) := dk_121 (dk_at dksX1_isIndex_0 11 rfl rfl)
theorem dX1_isIndex_12 : decode cX1_isIndex 12 = .ok (.lcmp, 1) := dk_148 (dk_at dksX1_isIndex_0 12 rfl rfl)
theorem dX1_isIndex_13 : decode cX1_isIndex 13 = .ok (.ifCond .ge 7, 3) := dk_156 0 7 (dk_at dksX1_isIndex_0 13 rfl rfl)
theorem dX1_isIndex_16 : decode cX1_isIndex 16 = .ok (.iconst 1, 1) := dk_4 (dk_at dksX1_isIndex_0 16 rfl rfl)
theorem dX1_isIndex_17 : decode cX1_isIndex 17 = .ok (.goto 4, 3) := dk_167 0 4 (dk_at dksX1_isIndex_0 17 rfl rfl)
theorem dX1_isIndex_20 : decode cX1_isIndex 20 = .ok (.iconst 0, 1) := dk_3 (dk_at dksX1_isIndex_0 20 rfl rfl)
theorem dX1_isIndex_21 : decode cX1_isIndex 21 = .ok (.ireturn, 1) := dk_172 (dk_at dksX1_isIndex_0 21 rfl rfl)
def dkwX1_total_1 : List UInt8 := [182, 0, 134, 172]
abbrev dktX1_total_1 : List UInt8 := dkwX1_total_1 ++ []
def dkwX1_total_0 : List UInt8 := [42, 9, 181, 0, 245, 187, 1, 7, 89, 42, 183, 1, 9, 182, 1, 10, 42, 180, 0, 20, 42, 180, 0, 245]
abbrev dktX1_total_0 : List UInt8 := dkwX1_total_0 ++ dktX1_total_1
theorem dksX1_total_0 : cX1_total.data.toList.drop 0 = dktX1_total_0 := by decide +kernel
theorem dksX1_total_1 : cX1_total.data.toList.drop 24 = dktX1_total_1 := dk_seg dksX1_total_0 24 rfl rfl
theorem dX1_total_0 : decode cX1_total 0 = .ok (.aload_n 0, 1) := dk_42 (dk_at dksX1_total_0 0 rfl rfl)
theorem dX1_total_1 : decode cX1_total 1 = .ok (.lconst 0, 1) := dk_9 (dk_at dksX1_total_0 1 rfl rfl)
theorem dX1_total_2 : decode cX1_total 2 = .ok (.putfield 245, 3) := dk_181 0 245 (dk_at dksX1_total_0 2 rfl rfl)
theorem dX1_total_5 : decode cX1_total 5 = .ok (.new 263, 3) := dk_187 1 7 (dk_at dksX1_total_0 5 rfl rfl)
theorem dX1_total_8 : decode cX1_total 8 = .ok (.dup, 1) := dk_89 (dk_at dksX1_total_0 8 rfl rfl)
theorem dX1_total_9 : decode cX1_total 9 = .ok (.aload_n 0, 1) := dk_42 (dk_at dksX1_total_0 9 rfl rfl)
theorem dX1_total_10 : decode cX1_total 10 = .ok (.invokespecial 265, 3) := dk_183 1 9 (dk_at dksX1_total_0 10 rfl rfl)
theorem dX1_total_13 : decode cX1_total 13 = .ok (.invokevirtual 266, 3) := dk_182 1 10 (dk_at dksX1_total_0 13 rfl rfl)
theorem dX1_total_16 : decode cX1_total 16 = .ok (.aload_n 0, 1) := dk_42 (dk_at dksX1_total_0 16 rfl rfl)
theorem dX1_total_17 : decode cX1_total 17 = .ok (.getfield 20, 3) := dk_180 0 20 (dk_at dksX1_total_0 17 rfl rfl)
theorem dX1_total_20 : decode cX1_total 20 = .ok (.aload_n 0, 1) := dk_42 (dk_at dksX1_total_0 20 rfl rfl)
theorem dX1_total_21 : decode cX1_total 21 = .ok (.getfield 245, 3) := dk_180 0 245 (dk_at dksX1_total_0 21 rfl rfl)
theorem dX1_total_24 : decode cX1_total 24 = .ok (.invokevirtual 134, 3) := dk_182 0 134 (dk_at dksX1_total_1 0 rfl rfl)
theorem dX1_total_27 : decode cX1_total 27 = .ok (.ireturn, 1) := dk_172 (dk_at dksX1_total_1 3 rfl rfl)
def dkwX1_ways_1 : List UInt8 := [182, 1, 14, 182, 1, 2, 42, 180, 0, 245, 136, 172]
abbrev dktX1_ways_1 : List UInt8 := dkwX1_ways_1 ++ []
def dkwX1_ways_0 : List UInt8 := [42, 27, 182, 0, 242, 154, 0, 5, 2, 172, 42, 9, 181, 0, 245, 187, 1, 11, 89, 42, 183, 1, 13, 27]
abbrev dktX1_ways_0 : List UInt8 := dkwX1_ways_0 ++ dktX1_ways_1
theorem dksX1_ways_0 : cX1_ways.data.toList.drop 0 = dktX1_ways_0 := by decide +kernel
theorem dksX1_ways_1 : cX1_ways.data.toList.drop 24 = dktX1_ways_1 := dk_seg dksX1_ways_0 24 rfl rfl
theorem dX1_ways_0 : decode cX1_ways 0 = .ok (.aload_n 0, 1) := dk_42 (dk_at dksX1_ways_0 0 rfl rfl)
theorem dX1_ways_1 : decode cX1_ways 1 = .ok (.iload_n 1, 1) := dk_27 (dk_at dksX1_ways_0 1 rfl rfl)
theorem dX1_ways_2 : decode cX1_ways 2 = .ok (.invokevirtual 242, 3) := dk_182 0 242 (dk_at dksX1_ways_0 2 rfl rfl)
theorem dX1_ways_5 : decode cX1_ways 5 = .ok (.ifCond .ne 5, 3) := dk_154 0 5 (dk_at dksX1_ways_0 5 rfl rfl)
theorem dX1_ways_8 : decode cX1_ways 8 = .ok (.iconst (-1), 1) := dk_2 (dk_at dksX1_ways_0 8 rfl rfl)
theorem dX1_ways_9 : decode cX1_ways 9 = .ok (.ireturn, 1) := dk_172 (dk_at dksX1_ways_0 9 rfl rfl)
theorem dX1_ways_10 : decode cX1_ways 10 = .ok (.aload_n 0, 1) := dk_42 (dk_at dksX1_ways_0 10 rfl rfl)
theorem dX1_ways_11 : decode cX1_ways 11 = .ok (.lconst 0, 1) := dk_9 (dk_at dksX1_ways_0 11 rfl rfl)
theorem dX1_ways_12 : decode cX1_ways 12 = .ok (.putfield 245, 3) := dk_181 0 245 (dk_at dksX1_ways_0 12 rfl rfl)
theorem dX1_ways_15 : decode cX1_ways 15 = .ok (.new 267, 3) := dk_187 1 11 (dk_at dksX1_ways_0 15 rfl rfl)
theorem dX1_ways_18 : decode cX1_ways 18 = .ok (.dup, 1) := dk_89 (dk_at dksX1_ways_0 18 rfl rfl)
theorem dX1_ways_19 : decode cX1_ways 19 = .ok (.aload_n 0, 1) := dk_42 (dk_at dksX1_ways_0 19 rfl rfl)
theorem dX1_ways_20 : decode cX1_ways 20 = .ok (.invokespecial 269, 3) := dk_183 1 13 (dk_at dksX1_ways_0 20 rfl rfl)
theorem dX1_ways_23 : decode cX1_ways 23 = .ok (.iload_n 1, 1) := dk_27 (dk_at dksX1_ways_0 23 rfl rfl)
theorem dX1_ways_24 : decode cX1_ways 24 = .ok (.invokevirtual 270, 3) := dk_182 1 14 (dk_at dksX1_ways_1 0 rfl rfl)
theorem dX1_ways_27 : decode cX1_ways 27 = .ok (.invokevirtual 258, 3) := dk_182 1 2 (dk_at dksX1_ways_1 3 rfl rfl)
theorem dX1_ways_30 : decode cX1_ways 30 = .ok (.aload_n 0, 1) := dk_42 (dk_at dksX1_ways_1 6 rfl rfl)
theorem dX1_ways_31 : decode cX1_ways 31 = .ok (.getfield 245, 3) := dk_180 0 245 (dk_at dksX1_ways_1 7 rfl rfl)
theorem dX1_ways_34 : decode cX1_ways 34 = .ok (.l2i, 1) := dk_136 (dk_at dksX1_ways_1 10 rfl rfl)
theorem dX1_ways_35 : decode cX1_ways 35 = .ok (.ireturn, 1) := dk_172 (dk_at dksX1_ways_1 11 rfl rfl)
def dkwX1_within_2_2 : List UInt8 := [180, 0, 245, 182, 0, 134, 172]
abbrev dktX1_within_2_2 : List UInt8 := dkwX1_within_2_2 ++ []
def dkwX1_within_2_1 : List UInt8 := [2, 172, 42, 9, 181, 0, 245, 187, 1, 15, 89, 42, 27, 183, 1, 17, 182, 1, 18, 42, 180, 0, 20, 42]
abbrev dktX1_within_2_1 : List UInt8 := dkwX1_within_2_1 ++ dktX1_within_2_2
def dkwX1_within_2_0 : List UInt8 := [27, 133, 9, 4, 42, 180, 0, 20, 180, 0, 101, 182, 0, 198, 120, 4, 100, 133, 184, 0, 61, 154, 0, 5]
abbrev dktX1_within_2_0 : List UInt8 := dkwX1_within_2_0 ++ dktX1_within_2_1
theorem dksX1_within_2_0 : cX1_within_2.data.toList.drop 0 = dktX1_within_2_0 := by decide +kernel
theorem dksX1_within_2_1 : cX1_within_2.data.toList.drop 24 = dktX1_within_2_1 := dk_seg dksX1_within_2_0 24 rfl rfl
theorem dksX1_within_2_2 : cX1_within_2.data.toList.drop 48 = dktX1_within_2_2 := dk_seg dksX1_within_2_1 24 rfl rfl
theorem dX1_within_2_0 : decode cX1_within_2 0 = .ok (.iload_n 1, 1) := dk_27 (dk_at dksX1_within_2_0 0 rfl rfl)
theorem dX1_within_2_1 : decode cX1_within_2 1 = .ok (.i2l, 1) := dk_133 (dk_at dksX1_within_2_0 1 rfl rfl)
theorem dX1_within_2_2 : decode cX1_within_2 2 = .ok (.lconst 0, 1) := dk_9 (dk_at dksX1_within_2_0 2 rfl rfl)
theorem dX1_within_2_3 : decode cX1_within_2 3 = .ok (.iconst 1, 1) := dk_4 (dk_at dksX1_within_2_0 3 rfl rfl)
theorem dX1_within_2_4 : decode cX1_within_2 4 = .ok (.aload_n 0, 1) := dk_42 (dk_at dksX1_within_2_0 4 rfl rfl)
theorem dX1_within_2_5 : decode cX1_within_2 5 = .ok (.getfield 20, 3) := dk_180 0 20 (dk_at dksX1_within_2_0 5 rfl rfl)
theorem dX1_within_2_8 : decode cX1_within_2 8 = .ok (.getfield 101, 3) := dk_180 0 101 (dk_at dksX1_within_2_0 8 rfl rfl)
theorem dX1_within_2_11 : decode cX1_within_2 11 = .ok (.invokevirtual 198, 3) := dk_182 0 198 (dk_at dksX1_within_2_0 11 rfl rfl)
theorem dX1_within_2_14 : decode cX1_within_2 14 = .ok (.ishl, 1) := dk_120 (dk_at dksX1_within_2_0 14 rfl rfl)
theorem dX1_within_2_15 : decode cX1_within_2 15 = .ok (.iconst 1, 1) := dk_4 (dk_at dksX1_within_2_0 15 rfl rfl)
theorem dX1_within_2_16 : decode cX1_within_2 16 = .ok (.isub, 1) := dk_100 (dk_at dksX1_within_2_0 16 rfl rfl)
theorem dX1_within_2_17 : decode cX1_within_2 17 = .ok (.i2l, 1) := dk_133 (dk_at dksX1_within_2_0 17 rfl rfl)
theorem dX1_within_2_18 : decode cX1_within_2 18 = .ok (.invokestatic 61, 3) := dk_184 0 61 (dk_at dksX1_within_2_0 18 rfl rfl)
theorem dX1_within_2_21 : decode cX1_within_2 21 = .ok (.ifCond .ne 5, 3) := dk_154 0 5 (dk_at dksX1_within_2_0 21 rfl rfl)
theorem dX1_within_2_24 : decode cX1_within_2 24 = .ok (.iconst (-1), 1) := dk_2 (dk_at dksX1_within_2_1 0 rfl rfl)
theorem dX1_within_2_25 : decode cX1_within_2 25 = .ok (.ireturn, 1) := dk_172 (dk_at dksX1_within_2_1 1 rfl rfl)
theorem dX1_within_2_26 : decode cX1_within_2 26 = .ok (.aload_n 0, 1) := dk_42 (dk_at dksX1_within_2_1 2 rfl rfl)
theorem dX1_within_2_27 : decode cX1_within_2 27 = .ok (.lconst 0, 1) := dk_9 (dk_at dksX1_within_2_1 3 rfl rfl)
theorem dX1_within_2_28 : decode cX1_within_2 28 = .ok (.putfield 245, 3) := dk_181 0 245 (dk_at dksX1_within_2_1 4 rfl rfl)
theorem dX1_within_2_31 : decode cX1_within_2 31 = .ok (.new 271, 3) := dk_187 1 15 (dk_at dksX1_within_2_1 7 rfl rfl)
theorem dX1_within_2_34 : decode cX1_within_2 34 = .ok (.dup, 1) := dk_89 (dk_at dksX1_within_2_1 10 rfl rfl)
theorem dX1_within_2_35 : decode cX1_within_2 35 = .ok (.aload_n 0, 1) := dk_42 (dk_at dksX1_within_2_1 11 rfl rfl)
theorem dX1_within_2_36 : decode cX1_within_2 36 = .ok (.iload_n 1, 1) := dk_27 (dk_at dksX1_within_2_1 12 rfl rfl)
theorem dX1_within_2_37 : decode cX1_within_2 37 = .ok (.invokespecial 273, 3) := dk_183 1 17 (dk_at dksX1_within_2_1 13 rfl rfl)
theorem dX1_within_2_40 : decode cX1_within_2 40 = .ok (.invokevirtual 274, 3) := dk_182 1 18 (dk_at dksX1_within_2_1 16 rfl rfl)
theorem dX1_within_2_43 : decode cX1_within_2 43 = .ok (.aload_n 0, 1) := dk_42 (dk_at dksX1_within_2_1 19 rfl rfl)
theorem dX1_within_2_44 : decode cX1_within_2 44 = .ok (.getfield 20, 3) := dk_180 0 20 (dk_at dksX1_within_2_1 20 rfl rfl)
theorem dX1_within_2_47 : decode cX1_within_2 47 = .ok (.aload_n 0, 1) := dk_42 (dk_at dksX1_within_2_1 23 rfl rfl)
theorem dX1_within_2_48 : decode cX1_within_2 48 = .ok (.getfield 245, 3) := dk_180 0 245 (dk_at dksX1_within_2_2 0 rfl rfl)
theorem dX1_within_2_51 : decode cX1_within_2 51 = .ok (.invokevirtual 134, 3) := dk_182 0 134 (dk_at dksX1_within_2_2 3 rfl rfl)
theorem dX1_within_2_54 : decode cX1_within_2 54 = .ok (.ireturn, 1) := dk_172 (dk_at dksX1_within_2_2 6 rfl rfl)
def dkwX1_width_1 : List UInt8 := [182, 1, 55, 77, 27, 154, 0, 10, 44, 180, 1, 45, 167, 0, 10, 44, 27, 4, 100, 182, 1, 59, 172]
abbrev dktX1_width_1 : List UInt8 := dkwX1_width_1 ++ []
def dkwX1_width_0 : List UInt8 := [27, 133, 9, 42, 180, 0, 20, 180, 0, 101, 182, 0, 198, 133, 184, 0, 61, 154, 0, 5, 2, 172, 42]
abbrev dktX1_width_0 : List UInt8 := dkwX1_width_0 ++ dktX1_width_1
theorem dksX1_width_0 : cX1_width.data.toList.drop 0 = dktX1_width_0 := by decide +kernel
theorem dksX1_width_1 : cX1_width.data.toList.drop 23 = dktX1_width_1 := dk_seg dksX1_width_0 23 rfl rfl
theorem dX1_width_0 : decode cX1_width 0 = .ok (.iload_n 1, 1) := dk_27 (dk_at dksX1_width_0 0 rfl rfl)
theorem dX1_width_1 : decode cX1_width 1 = .ok (.i2l, 1) := dk_133 (dk_at dksX1_width_0 1 rfl rfl)
theorem dX1_width_2 : decode cX1_width 2 = .ok (.lconst 0, 1) := dk_9 (dk_at dksX1_width_0 2 rfl rfl)
theorem dX1_width_3 : decode cX1_width 3 = .ok (.aload_n 0, 1) := dk_42 (dk_at dksX1_width_0 3 rfl rfl)
theorem dX1_width_4 : decode cX1_width 4 = .ok (.getfield 20, 3) := dk_180 0 20 (dk_at dksX1_width_0 4 rfl rfl)
theorem dX1_width_7 : decode cX1_width 7 = .ok (.getfield 101, 3) := dk_180 0 101 (dk_at dksX1_width_0 7 rfl rfl)
theorem dX1_width_10 : decode cX1_width 10 = .ok (.invokevirtual 198, 3) := dk_182 0 198 (dk_at dksX1_width_0 10 rfl rfl)
theorem dX1_width_13 : decode cX1_width 13 = .ok (.i2l, 1) := dk_133 (dk_at dksX1_width_0 13 rfl rfl)
theorem dX1_width_14 : decode cX1_width 14 = .ok (.invokestatic 61, 3) := dk_184 0 61 (dk_at dksX1_width_0 14 rfl rfl)
theorem dX1_width_17 : decode cX1_width 17 = .ok (.ifCond .ne 5, 3) := dk_154 0 5 (dk_at dksX1_width_0 17 rfl rfl)
theorem dX1_width_20 : decode cX1_width 20 = .ok (.iconst (-1), 1) := dk_2 (dk_at dksX1_width_0 20 rfl rfl)
theorem dX1_width_21 : decode cX1_width 21 = .ok (.ireturn, 1) := dk_172 (dk_at dksX1_width_0 21 rfl rfl)
theorem dX1_width_22 : decode cX1_width 22 = .ok (.aload_n 0, 1) := dk_42 (dk_at dksX1_width_0 22 rfl rfl)
theorem dX1_width_23 : decode cX1_width 23 = .ok (.invokevirtual 311, 3) := dk_182 1 55 (dk_at dksX1_width_1 0 rfl rfl)
theorem dX1_width_26 : decode cX1_width 26 = .ok (.astore_n 2, 1) := dk_77 (dk_at dksX1_width_1 3 rfl rfl)
theorem dX1_width_27 : decode cX1_width 27 = .ok (.iload_n 1, 1) := dk_27 (dk_at dksX1_width_1 4 rfl rfl)
theorem dX1_width_28 : decode cX1_width 28 = .ok (.ifCond .ne 10, 3) := dk_154 0 10 (dk_at dksX1_width_1 5 rfl rfl)
theorem dX1_width_31 : decode cX1_width 31 = .ok (.aload_n 2, 1) := dk_44 (dk_at dksX1_width_1 8 rfl rfl)
theorem dX1_width_32 : decode cX1_width 32 = .ok (.getfield 301, 3) := dk_180 1 45 (dk_at dksX1_width_1 9 rfl rfl)
theorem dX1_width_35 : decode cX1_width 35 = .ok (.goto 10, 3) := dk_167 0 10 (dk_at dksX1_width_1 12 rfl rfl)
theorem dX1_width_38 : decode cX1_width 38 = .ok (.aload_n 2, 1) := dk_44 (dk_at dksX1_width_1 15 rfl rfl)
theorem dX1_width_39 : decode cX1_width 39 = .ok (.iload_n 1, 1) := dk_27 (dk_at dksX1_width_1 16 rfl rfl)
theorem dX1_width_40 : decode cX1_width 40 = .ok (.iconst 1, 1) := dk_4 (dk_at dksX1_width_1 17 rfl rfl)
theorem dX1_width_41 : decode cX1_width 41 = .ok (.isub, 1) := dk_100 (dk_at dksX1_width_1 18 rfl rfl)
theorem dX1_width_42 : decode cX1_width 42 = .ok (.invokevirtual 315, 3) := dk_182 1 59 (dk_at dksX1_width_1 19 rfl rfl)
theorem dX1_width_45 : decode cX1_width 45 = .ok (.ireturn, 1) := dk_172 (dk_at dksX1_width_1 22 rfl rfl)
def dkwX1_narrowest_6 : List UInt8 := [132, 4, 1, 167, 255, 170, 167, 255, 132]
abbrev dktX1_narrowest_6 : List UInt8 := dkwX1_narrowest_6 ++ []
def dkwX1_narrowest_5 : List UInt8 := [104, 96, 21, 5, 44, 180, 1, 45, 42, 21, 5, 182, 1, 48, 184, 1, 50, 183, 1, 24, 182, 1, 27, 87]
abbrev dktX1_narrowest_5 : List UInt8 := dkwX1_narrowest_5 ++ dktX1_narrowest_6
def dkwX1_narrowest_4 : List UInt8 := [21, 4, 120, 128, 54, 5, 43, 187, 1, 22, 89, 44, 180, 1, 39, 21, 4, 4, 96, 178, 1, 42, 29, 46]
abbrev dktX1_narrowest_4 : List UInt8 := dkwX1_narrowest_4 ++ dktX1_narrowest_5
def dkwX1_narrowest_3 : List UInt8 := [162, 0, 77, 44, 180, 1, 31, 21, 4, 184, 0, 153, 153, 0, 6, 167, 0, 56, 44, 180, 1, 31, 4]
abbrev dktX1_narrowest_3 : List UInt8 := dkwX1_narrowest_3 ++ dktX1_narrowest_4
def dkwX1_narrowest_2 : List UInt8 := [182, 0, 198, 160, 0, 5, 44, 176, 3, 54, 4, 21, 4, 42, 180, 0, 20, 180, 0, 101, 182, 0, 198]
abbrev dktX1_narrowest_2 : List UInt8 := dkwX1_narrowest_2 ++ dktX1_narrowest_3
def dkwX1_narrowest_1 : List UInt8 := [182, 1, 28, 192, 1, 22, 77, 44, 180, 1, 31, 184, 1, 34, 62, 29, 42, 180, 0, 20, 180, 0, 101]
abbrev dktX1_narrowest_1 : List UInt8 := dkwX1_narrowest_1 ++ dktX1_narrowest_2
def dkwX1_narrowest_0 : List UInt8 := [187, 1, 19, 89, 183, 1, 21, 76, 43, 187, 1, 22, 89, 3, 3, 3, 183, 1, 24, 182, 1, 27, 87, 43]
abbrev dktX1_narrowest_0 : List UInt8 := dkwX1_narrowest_0 ++ dktX1_narrowest_1
theorem dksX1_narrowest_0 : cX1_narrowest.data.toList.drop 0 = dktX1_narrowest_0 := by decide +kernel
theorem dksX1_narrowest_1 : cX1_narrowest.data.toList.drop 24 = dktX1_narrowest_1 := dk_seg dksX1_narrowest_0 24 rfl rfl
theorem dksX1_narrowest_2 : cX1_narrowest.data.toList.drop 47 = dktX1_narrowest_2 := dk_seg dksX1_narrowest_1 23 rfl rfl
theorem dksX1_narrowest_3 : cX1_narrowest.data.toList.drop 70 = dktX1_narrowest_3 := dk_seg dksX1_narrowest_2 23 rfl rfl
theorem dksX1_narrowest_4 : cX1_narrowest.data.toList.drop 93 = dktX1_narrowest_4 := dk_seg dksX1_narrowest_3 23 rfl rfl
theorem dksX1_narrowest_5 : cX1_narrowest.data.toList.drop 117 = dktX1_narrowest_5 := dk_seg dksX1_narrowest_4 24 rfl rfl
theorem dksX1_narrowest_6 : cX1_narrowest.data.toList.drop 141 = dktX1_narrowest_6 := dk_seg dksX1_narrowest_5 24 rfl rfl
theorem dX1_narrowest_0 : decode cX1_narrowest 0 = .ok (.new 275, 3) := dk_187 1 19 (dk_at dksX1_narrowest_0 0 rfl rfl)
theorem dX1_narrowest_3 : decode cX1_narrowest 3 = .ok (.dup, 1) := dk_89 (dk_at dksX1_narrowest_0 3 rfl rfl)
theorem dX1_narrowest_4 : decode cX1_narrowest 4 = .ok (.invokespecial 277, 3) := dk_183 1 21 (dk_at dksX1_narrowest_0 4 rfl rfl)
theorem dX1_narrowest_7 : decode cX1_narrowest 7 = .ok (.astore_n 1, 1) := dk_76 (dk_at dksX1_narrowest_0 7 rfl rfl)
theorem dX1_narrowest_8 : decode cX1_narrowest 8 = .ok (.aload_n 1, 1) := dk_43 (dk_at dksX1_narrowest_0 8 rfl rfl)
theorem dX1_narrowest_9 : decode cX1_narrowest 9 = .ok (.new 278, 3) := dk_187 1 22 (dk_at dksX1_narrowest_0 9 rfl rfl)
theorem dX1_narrowest_12 : decode cX1_narrowest 12 = .ok (.dup, 1) := dk_89 (dk_at dksX1_narrowest_0 12 rfl rfl)
theorem dX1_narrowest_13 : decode cX1_narrowest 13 = .ok (.iconst 0, 1) := dk_3 (dk_at dksX1_narrowest_0 13 rfl rfl)
theorem dX1_narrowest_14 : decode cX1_narrowest 14 = .ok (.iconst 0, 1) := dk_3 (dk_at dksX1_narrowest_0 14 rfl rfl)
theorem dX1_narrowest_15 : decode cX1_narrowest 15 = .ok (.iconst 0, 1) := dk_3 (dk_at dksX1_narrowest_0 15 rfl rfl)
theorem dX1_narrowest_16 : decode cX1_narrowest 16 = .ok (.invokespecial 280, 3) := dk_183 1 24 (dk_at dksX1_narrowest_0 16 rfl rfl)
theorem dX1_narrowest_19 : decode cX1_narrowest 19 = .ok (.invokevirtual 283, 3) := dk_182 1 27 (dk_at dksX1_narrowest_0 19 rfl rfl)
theorem dX1_narrowest_22 : decode cX1_narrowest 22 = .ok (.pop, 1) := dk_87 (dk_at dksX1_narrowest_0 22 rfl rfl)
theorem dX1_narrowest_23 : decode cX1_narrowest 23 = .ok (.aload_n 1, 1) := dk_43 (dk_at dksX1_narrowest_0 23 rfl rfl)
theorem dX1_narrowest_24 : decode cX1_narrowest 24 = .ok (.invokevirtual 284, 3) := dk_182 1 28 (dk_at dksX1_narrowest_1 0 rfl rfl)
theorem dX1_narrowest_27 : decode cX1_narrowest 27 = .ok (.checkcast 278, 3) := dk_192 1 22 (dk_at dksX1_narrowest_1 3 rfl rfl)
theorem dX1_narrowest_30 : decode cX1_narrowest 30 = .ok (.astore_n 2, 1) := dk_77 (dk_at dksX1_narrowest_1 6 rfl rfl)
theorem dX1_narrowest_31 : decode cX1_narrowest 31 = .ok (.aload_n 2, 1) := dk_44 (dk_at dksX1_narrowest_1 7 rfl rfl)
theorem dX1_narrowest_32 : decode cX1_narrowest 32 = .ok (.getfield 287, 3) := dk_180 1 31 (dk_at dksX1_narrowest_1 8 rfl rfl)
theorem dX1_narrowest_35 : decode cX1_narrowest 35 = .ok (.invokestatic 290, 3) := dk_184 1 34 (dk_at dksX1_narrowest_1 11 rfl rfl)
theorem dX1_narrowest_38 : decode cX1_narrowest 38 = .ok (.istore_n 3, 1) := dk_62 (dk_at dksX1_narrowest_1 14 rfl rfl)
theorem dX1_narrowest_39 : decode cX1_narrowest 39 = .ok (.iload_n 3, 1) := dk_29 (dk_at dksX1_narrowest_1 15 rfl rfl)
theorem dX1_narrowest_40 : decode cX1_narrowest 40 = .ok (.aload_n 0, 1) := dk_42 (dk_at dksX1_narrowest_1 16 rfl rfl)
theorem dX1_narrowest_41 : decode cX1_narrowest 41 = .ok (.getfield 20, 3) := dk_180 0 20 (dk_at dksX1_narrowest_1 17 rfl rfl)
theorem dX1_narrowest_44 : decode cX1_narrowest 44 = .ok (.getfield 101, 3) := dk_180 0 101 (dk_at dksX1_narrowest_1 20 rfl rfl)
theorem dX1_narrowest_47 : decode cX1_narrowest 47 = .ok (.invokevirtual 198, 3) := dk_182 0 198 (dk_at dksX1_narrowest_2 0 rfl rfl)
theorem dX1_narrowest_50 : decode cX1_narrowest 50 = .ok (.if_icmp .ne 5, 3) := dk_160 0 5 (dk_at dksX1_narrowest_2 3 rfl rfl)
theorem dX1_narrowest_53 : decode cX1_narrowest 53 = .ok (.aload_n 2, 1) := dk_44 (dk_at dksX1_narrowest_2 6 rfl rfl)
theorem dX1_narrowest_54 : decode cX1_narrowest 54 = .ok (.areturn, 1) := dk_176 (dk_at dksX1_narrowest_2 7 rfl rfl)
theorem dX1_narrowest_55 : decode cX1_narrowest 55 = .ok (.iconst 0, 1) := dk_3 (dk_at dksX1_narrowest_2 8 rfl rfl)
theorem dX1_narrowest_56 : decode cX1_narrowest 56 = .ok (.istore 4, 2) := dk_54 4 (dk_at dksX1_narrowest_2 9 rfl rfl)
theorem dX1_narrowest_58 : decode cX1_narrowest 58 = .ok (.iload 4, 2) := dk_21 4 (dk_at dksX1_narrowest_2 11 rfl rfl)
theorem dX1_narrowest_60 : decode cX1_narrowest 60 = .ok (.aload_n 0, 1) := dk_42 (dk_at dksX1_narrowest_2 13 rfl rfl)
theorem dX1_narrowest_61 : decode cX1_narrowest 61 = .ok (.getfield 20, 3) := dk_180 0 20 (dk_at dksX1_narrowest_2 14 rfl rfl)
theorem dX1_narrowest_64 : decode cX1_narrowest 64 = .ok (.getfield 101, 3) := dk_180 0 101 (dk_at dksX1_narrowest_2 17 rfl rfl)
theorem dX1_narrowest_67 : decode cX1_narrowest 67 = .ok (.invokevirtual 198, 3) := dk_182 0 198 (dk_at dksX1_narrowest_2 20 rfl rfl)
theorem dX1_narrowest_70 : decode cX1_narrowest 70 = .ok (.if_icmp .ge 77, 3) := dk_162 0 77 (dk_at dksX1_narrowest_3 0 rfl rfl)
theorem dX1_narrowest_73 : decode cX1_narrowest 73 = .ok (.aload_n 2, 1) := dk_44 (dk_at dksX1_narrowest_3 3 rfl rfl)
theorem dX1_narrowest_74 : decode cX1_narrowest 74 = .ok (.getfield 287, 3) := dk_180 1 31 (dk_at dksX1_narrowest_3 4 rfl rfl)
theorem dX1_narrowest_77 : decode cX1_narrowest 77 = .ok (.iload 4, 2) := dk_21 4 (dk_at dksX1_narrowest_3 7 rfl rfl)
theorem dX1_narrowest_79 : decode cX1_narrowest 79 = .ok (.invokestatic 153, 3) := dk_184 0 153 (dk_at dksX1_narrowest_3 9 rfl rfl)
theorem dX1_narrowest_82 : decode cX1_narrowest 82 = .ok (.ifCond .eq 6, 3) := dk_153 0 6 (dk_at dksX1_narrowest_3 12 rfl rfl)
theorem dX1_narrowest_85 : decode cX1_narrowest 85 = .ok (.goto 56, 3) := dk_167 0 56 (dk_at dksX1_narrowest_3 15 rfl rfl)
theorem dX1_narrowest_88 : decode cX1_narrowest 88 = .ok (.aload_n 2, 1) := dk_44 (dk_at dksX1_narrowest_3 18 rfl rfl)
theorem dX1_narrowest_89 : decode cX1_narrowest 89 = .ok (.getfield 287, 3) := dk_180 1 31 (dk_at dksX1_narrowest_3 19 rfl rfl)
theorem dX1_narrowest_92 : decode cX1_narrowest 92 = .ok (.iconst 1, 1) := dk_4 (dk_at dksX1_narrowest_3 22 rfl rfl)
theorem dX1_narrowest_93 : decode cX1_narrowest 93 = .ok (.iload 4, 2) := dk_21 4 (dk_at dksX1_narrowest_4 0 rfl rfl)
theorem dX1_narrowest_95 : decode cX1_narrowest 95 = .ok (.ishl, 1) := dk_120 (dk_at dksX1_narrowest_4 2 rfl rfl)
theorem dX1_narrowest_96 : decode cX1_narrowest 96 = .ok (.ior, 1) := dk_128 (dk_at dksX1_narrowest_4 3 rfl rfl)
theorem dX1_narrowest_97 : decode cX1_narrowest 97 = .ok (.istore 5, 2) := dk_54 5 (dk_at dksX1_narrowest_4 4 rfl rfl)
theorem dX1_narrowest_99 : decode cX1_narrowest 99 = .ok (.aload_n 1, 1) := dk_43 (dk_at dksX1_narrowest_4 6 rfl rfl)
theorem dX1_narrowest_100 : decode cX1_narrowest 100 = .ok (.new 278, 3) := dk_187 1 22 (dk_at dksX1_narrowest_4 7 rfl rfl)
theorem dX1_narrowest_103 : decode cX1_narrowest 103 = .ok (.dup, 1) := dk_89 (dk_at dksX1_narrowest_4 10 rfl rfl)
theorem dX1_narrowest_104 : decode cX1_narrowest 104 = .ok (.aload_n 2, 1) := dk_44 (dk_at dksX1_narrowest_4 11 rfl rfl)
theorem dX1_narrowest_105 : decode cX1_narrowest 105 = .ok (.getfield 295, 3) := dk_180 1 39 (dk_at dksX1_narrowest_4 12 rfl rfl)
theorem dX1_narrowest_108 : decode cX1_narrowest 108 = .ok (.iload 4, 2) := dk_21 4 (dk_at dksX1_narrowest_4 15 rfl rfl)
theorem dX1_narrowest_110 : decode cX1_narrowest 110 = .ok (.iconst 1, 1) := dk_4 (dk_at dksX1_narrowest_4 17 rfl rfl)
theorem dX1_narrowest_111 : decode cX1_narrowest 111 = .ok (.iadd, 1) := dk_96 (dk_at dksX1_narrowest_4 18 rfl rfl)
theorem dX1_narrowest_112 : decode cX1_narrowest 112 = .ok (.getstatic 298, 3) := dk_178 1 42 (dk_at dksX1_narrowest_4 19 rfl rfl)
theorem dX1_narrowest_115 : decode cX1_narrowest 115 = .ok (.iload_n 3, 1) := dk_29 (dk_at dksX1_narrowest_4 22 rfl rfl)
theorem dX1_narrowest_116 : decode cX1_narrowest 116 = .ok (.iaload, 1) := dk_46 (dk_at dksX1_narrowest_4 23 rfl rfl)
theorem dX1_narrowest_117 : decode cX1_narrowest 117 = .ok (.imul, 1) := dk_104 (dk_at dksX1_narrowest_5 0 rfl rfl)
theorem dX1_narrowest_118 : decode cX1_narrowest 118 = .ok (.iadd, 1) := dk_96 (dk_at dksX1_narrowest_5 1 rfl rfl)
theorem dX1_narrowest_119 : decode cX1_narrowest 119 = .ok (.iload 5, 2) := dk_21 5 (dk_at dksX1_narrowest_5 2 rfl rfl)
theorem dX1_narrowest_121 : decode cX1_narrowest 121 = .ok (.aload_n 2, 1) := dk_44 (dk_at dksX1_narrowest_5 4 rfl rfl)
theorem dX1_narrowest_122 : decode cX1_narrowest 122 = .ok (.getfield 301, 3) := dk_180 1 45 (dk_at dksX1_narrowest_5 5 rfl rfl)
theorem dX1_narrowest_125 : decode cX1_narrowest 125 = .ok (.aload_n 0, 1) := dk_42 (dk_at dksX1_narrowest_5 8 rfl rfl)
theorem dX1_narrowest_126 : decode cX1_narrowest 126 = .ok (.iload 5, 2) := dk_21 5 (dk_at dksX1_narrowest_5 9 rfl rfl)
theorem dX1_narrowest_128 : decode cX1_narrowest 128 = .ok (.invokevirtual 304, 3) := dk_182 1 48 (dk_at dksX1_narrowest_5 11 rfl rfl)
theorem dX1_narrowest_131 : decode cX1_narrowest 131 = .ok (.invokestatic 306, 3) := dk_184 1 50 (dk_at dksX1_narrowest_5 14 rfl rfl)
theorem dX1_narrowest_134 : decode cX1_narrowest 134 = .ok (.invokespecial 280, 3) := dk_183 1 24 (dk_at dksX1_narrowest_5 17 rfl rfl)
theorem dX1_narrowest_137 : decode cX1_narrowest 137 = .ok (.invokevirtual 283, 3) := dk_182 1 27 (dk_at dksX1_narrowest_5 20 rfl rfl)
theorem dX1_narrowest_140 : decode cX1_narrowest 140 = .ok (.pop, 1) := dk_87 (dk_at dksX1_narrowest_5 23 rfl rfl)
theorem dX1_narrowest_141 : decode cX1_narrowest 141 = .ok (.iinc 4 1, 3) := dk_132 4 1 (dk_at dksX1_narrowest_6 0 rfl rfl)
theorem dX1_narrowest_144 : decode cX1_narrowest 144 = .ok (.goto (-86), 3) := dk_167 255 170 (dk_at dksX1_narrowest_6 3 rfl rfl)
theorem dX1_narrowest_147 : decode cX1_narrowest 147 = .ok (.goto (-124), 3) := dk_167 255 132 (dk_at dksX1_narrowest_6 6 rfl rfl)
def dkwX1_wide_5 : List UInt8 := [132, 3, 1, 167, 255, 186, 28, 172]
abbrev dktX1_wide_5 : List UInt8 := dkwX1_wide_5 ++ []
def dkwX1_wide_4 : List UInt8 := [29, 182, 0, 217, 192, 0, 219, 182, 0, 227, 184, 0, 153, 159, 0, 7, 4, 167, 0, 4, 3, 96, 61]
abbrev dktX1_wide_4 : List UInt8 := dkwX1_wide_4 ++ dktX1_wide_5
def dkwX1_wide_3 : List UInt8 := [180, 0, 104, 29, 182, 0, 217, 192, 0, 219, 182, 0, 221, 184, 0, 153, 27, 42, 180, 0, 27, 180, 0, 104]
abbrev dktX1_wide_3 : List UInt8 := dkwX1_wide_3 ++ dktX1_wide_4
def dkwX1_wide_2 : List UInt8 := [3, 62, 29, 42, 180, 0, 27, 180, 0, 104, 182, 0, 46, 162, 0, 62, 28, 27, 42, 180, 0, 27]
abbrev dktX1_wide_2 : List UInt8 := dkwX1_wide_2 ++ dktX1_wide_3
def dkwX1_wide_1 : List UInt8 := [153, 0, 15, 178, 0, 127, 42, 29, 182, 0, 236, 46, 167, 0, 4, 3, 96, 61, 132, 3, 1, 167, 255, 215]
abbrev dktX1_wide_1 : List UInt8 := dkwX1_wide_1 ++ dktX1_wide_2
def dkwX1_wide_0 : List UInt8 := [3, 61, 3, 62, 29, 42, 180, 0, 20, 180, 0, 101, 182, 0, 198, 162, 0, 33, 28, 27, 29, 184, 0, 153]
abbrev dktX1_wide_0 : List UInt8 := dkwX1_wide_0 ++ dktX1_wide_1
theorem dksX1_wide_0 : cX1_wide.data.toList.drop 0 = dktX1_wide_0 := by decide +kernel
theorem dksX1_wide_1 : cX1_wide.data.toList.drop 24 = dktX1_wide_1 := dk_seg dksX1_wide_0 24 rfl rfl
theorem dksX1_wide_2 : cX1_wide.data.toList.drop 48 = dktX1_wide_2 := dk_seg dksX1_wide_1 24 rfl rfl
theorem dksX1_wide_3 : cX1_wide.data.toList.drop 70 = dktX1_wide_3 := dk_seg dksX1_wide_2 22 rfl rfl
theorem dksX1_wide_4 : cX1_wide.data.toList.drop 94 = dktX1_wide_4 := dk_seg dksX1_wide_3 24 rfl rfl
theorem dksX1_wide_5 : cX1_wide.data.toList.drop 117 = dktX1_wide_5 := dk_seg dksX1_wide_4 23 rfl rfl
theorem dX1_wide_0 : decode cX1_wide 0 = .ok (.iconst 0, 1) := dk_3 (dk_at dksX1_wide_0 0 rfl rfl)
theorem dX1_wide_1 : decode cX1_wide 1 = .ok (.istore_n 2, 1) := dk_61 (dk_at dksX1_wide_0 1 rfl rfl)
theorem dX1_wide_2 : decode cX1_wide 2 = .ok (.iconst 0, 1) := dk_3 (dk_at dksX1_wide_0 2 rfl rfl)
theorem dX1_wide_3 : decode cX1_wide 3 = .ok (.istore_n 3, 1) := dk_62 (dk_at dksX1_wide_0 3 rfl rfl)
theorem dX1_wide_4 : decode cX1_wide 4 = .ok (.iload_n 3, 1) := dk_29 (dk_at dksX1_wide_0 4 rfl rfl)
theorem dX1_wide_5 : decode cX1_wide 5 = .ok (.aload_n 0, 1) := dk_42 (dk_at dksX1_wide_0 5 rfl rfl)
theorem dX1_wide_6 : decode cX1_wide 6 = .ok (.getfield 20, 3) := dk_180 0 20 (dk_at dksX1_wide_0 6 rfl rfl)
theorem dX1_wide_9 : decode cX1_wide 9 = .ok (.getfield 101, 3) := dk_180 0 101 (dk_at dksX1_wide_0 9 rfl rfl)
theorem dX1_wide_12 : decode cX1_wide 12 = .ok (.invokevirtual 198, 3) := dk_182 0 198 (dk_at dksX1_wide_0 12 rfl rfl)
theorem dX1_wide_15 : decode cX1_wide 15 = .ok (.if_icmp .ge 33, 3) := dk_162 0 33 (dk_at dksX1_wide_0 15 rfl rfl)
theorem dX1_wide_18 : decode cX1_wide 18 = .ok (.iload_n 2, 1) := dk_28 (dk_at dksX1_wide_0 18 rfl rfl)
theorem dX1_wide_19 : decode cX1_wide 19 = .ok (.iload_n 1, 1) := dk_27 (dk_at dksX1_wide_0 19 rfl rfl)
theorem dX1_wide_20 : decode cX1_wide 20 = .ok (.iload_n 3, 1) := dk_29 (dk_at dksX1_wide_0 20 rfl rfl)
theorem dX1_wide_21 : decode cX1_wide 21 = .ok (.invokestatic 153, 3) := dk_184 0 153 (dk_at dksX1_wide_0 21 rfl rfl)
theorem dX1_wide_24 : decode cX1_wide 24 = .ok (.ifCond .eq 15, 3) := dk_153 0 15 (dk_at dksX1_wide_1 0 rfl rfl)
theorem dX1_wide_27 : decode cX1_wide 27 = .ok (.getstatic 127, 3) := dk_178 0 127 (dk_at dksX1_wide_1 3 rfl rfl)
theorem dX1_wide_30 : decode cX1_wide 30 = .ok (.aload_n 0, 1) := dk_42 (dk_at dksX1_wide_1 6 rfl rfl)
theorem dX1_wide_31 : decode cX1_wide 31 = .ok (.iload_n 3, 1) := dk_29 (dk_at dksX1_wide_1 7 rfl rfl)
theorem dX1_wide_32 : decode cX1_wide 32 = .ok (.invokevirtual 236, 3) := dk_182 0 236 (dk_at dksX1_wide_1 8 rfl rfl)
theorem dX1_wide_35 : decode cX1_wide 35 = .ok (.iaload, 1) := dk_46 (dk_at dksX1_wide_1 11 rfl rfl)
theorem dX1_wide_36 : decode cX1_wide 36 = .ok (.goto 4, 3) := dk_167 0 4 (dk_at dksX1_wide_1 12 rfl rfl)
theorem dX1_wide_39 : decode cX1_wide 39 = .ok (.iconst 0, 1) := dk_3 (dk_at dksX1_wide_1 15 rfl rfl)
theorem dX1_wide_40 : decode cX1_wide 40 = .ok (.iadd, 1) := dk_96 (dk_at dksX1_wide_1 16 rfl rfl)
theorem dX1_wide_41 : decode cX1_wide 41 = .ok (.istore_n 2, 1) := dk_61 (dk_at dksX1_wide_1 17 rfl rfl)
theorem dX1_wide_42 : decode cX1_wide 42 = .ok (.iinc 3 1, 3) := dk_132 3 1 (dk_at dksX1_wide_1 18 rfl rfl)
theorem dX1_wide_45 : decode cX1_wide 45 = .ok (.goto (-41), 3) := dk_167 255 215 (dk_at dksX1_wide_1 21 rfl rfl)
theorem dX1_wide_48 : decode cX1_wide 48 = .ok (.iconst 0, 1) := dk_3 (dk_at dksX1_wide_2 0 rfl rfl)
theorem dX1_wide_49 : decode cX1_wide 49 = .ok (.istore_n 3, 1) := dk_62 (dk_at dksX1_wide_2 1 rfl rfl)
theorem dX1_wide_50 : decode cX1_wide 50 = .ok (.iload_n 3, 1) := dk_29 (dk_at dksX1_wide_2 2 rfl rfl)
theorem dX1_wide_51 : decode cX1_wide 51 = .ok (.aload_n 0, 1) := dk_42 (dk_at dksX1_wide_2 3 rfl rfl)
theorem dX1_wide_52 : decode cX1_wide 52 = .ok (.getfield 27, 3) := dk_180 0 27 (dk_at dksX1_wide_2 4 rfl rfl)
theorem dX1_wide_55 : decode cX1_wide 55 = .ok (.getfield 104, 3) := dk_180 0 104 (dk_at dksX1_wide_2 7 rfl rfl)
theorem dX1_wide_58 : decode cX1_wide 58 = .ok (.invokevirtual 46, 3) := dk_182 0 46 (dk_at dksX1_wide_2 10 rfl rfl)
theorem dX1_wide_61 : decode cX1_wide 61 = .ok (.if_icmp .ge 62, 3) := dk_162 0 62 (dk_at dksX1_wide_2 13 rfl rfl)
theorem dX1_wide_64 : decode cX1_wide 64 = .ok (.iload_n 2, 1) := dk_28 (dk_at dksX1_wide_2 16 rfl rfl)
theorem dX1_wide_65 : decode cX1_wide 65 = .ok (.iload_n 1, 1) := dk_27 (dk_at dksX1_wide_2 17 rfl rfl)
theorem dX1_wide_66 : decode cX1_wide 66 = .ok (.aload_n 0, 1) := dk_42 (dk_at dksX1_wide_2 18 rfl rfl)
theorem dX1_wide_67 : decode cX1_wide 67 = .ok (.getfield 27, 3) := dk_180 0 27 (dk_at dksX1_wide_2 19 rfl rfl)
theorem dX1_wide_70 : decode cX1_wide 70 = .ok (.getfield 104, 3) := dk_180 0 104 (dk_at dksX1_wide_3 0 rfl rfl)
theorem dX1_wide_73 : decode cX1_wide 73 = .ok (.iload_n 3, 1) := dk_29 (dk_at dksX1_wide_3 3 rfl rfl)
theorem dX1_wide_74 : decode cX1_wide 74 = .ok (.invokevirtual 217, 3) := dk_182 0 217 (dk_at dksX1_wide_3 4 rfl rfl)
theorem dX1_wide_77 : decode cX1_wide 77 = .ok (.checkcast 219, 3) := dk_192 0 219 (dk_at dksX1_wide_3 7 rfl rfl)
theorem dX1_wide_80 : decode cX1_wide 80 = .ok (.invokevirtual 221, 3) := dk_182 0 221 (dk_at dksX1_wide_3 10 rfl rfl)
theorem dX1_wide_83 : decode cX1_wide 83 = .ok (.invokestatic 153, 3) := dk_184 0 153 (dk_at dksX1_wide_3 13 rfl rfl)
theorem dX1_wide_86 : decode cX1_wide 86 = .ok (.iload_n 1, 1) := dk_27 (dk_at dksX1_wide_3 16 rfl rfl)
theorem dX1_wide_87 : decode cX1_wide 87 = .ok (.aload_n 0, 1) := dk_42 (dk_at dksX1_wide_3 17 rfl rfl)
theorem dX1_wide_88 : decode cX1_wide 88 = .ok (.getfield 27, 3) := dk_180 0 27 (dk_at dksX1_wide_3 18 rfl rfl)
theorem dX1_wide_91 : decode cX1_wide 91 = .ok (.getfield 104, 3) := dk_180 0 104 (dk_at dksX1_wide_3 21 rfl rfl)
theorem dX1_wide_94 : decode cX1_wide 94 = .ok (.iload_n 3, 1) := dk_29 (dk_at dksX1_wide_4 0 rfl rfl)
theorem dX1_wide_95 : decode cX1_wide 95 = .ok (.invokevirtual 217, 3) := dk_182 0 217 (dk_at dksX1_wide_4 1 rfl rfl)
theorem dX1_wide_98 : decode cX1_wide 98 = .ok (.checkcast 219, 3) := dk_192 0 219 (dk_at dksX1_wide_4 4 rfl rfl)
theorem dX1_wide_101 : decode cX1_wide 101 = .ok (.invokevirtual 227, 3) := dk_182 0 227 (dk_at dksX1_wide_4 7 rfl rfl)
theorem dX1_wide_104 : decode cX1_wide 104 = .ok (.invokestatic 153, 3) := dk_184 0 153 (dk_at dksX1_wide_4 10 rfl rfl)
theorem dX1_wide_107 : decode cX1_wide 107 = .ok (.if_icmp .eq 7, 3) := dk_159 0 7 (dk_at dksX1_wide_4 13 rfl rfl)
theorem dX1_wide_110 : decode cX1_wide 110 = .ok (.iconst 1, 1) := dk_4 (dk_at dksX1_wide_4 16 rfl rfl)
theorem dX1_wide_111 : decode cX1_wide 111 = .ok (.goto 4, 3) := dk_167 0 4 (dk_at dksX1_wide_4 17 rfl rfl)
theorem dX1_wide_114 : decode cX1_wide 114 = .ok (.iconst 0, 1) := dk_3 (dk_at dksX1_wide_4 20 rfl rfl)
theorem dX1_wide_115 : decode cX1_wide 115 = .ok (.iadd, 1) := dk_96 (dk_at dksX1_wide_4 21 rfl rfl)
theorem dX1_wide_116 : decode cX1_wide 116 = .ok (.istore_n 2, 1) := dk_61 (dk_at dksX1_wide_4 22 rfl rfl)
theorem dX1_wide_117 : decode cX1_wide 117 = .ok (.iinc 3 1, 3) := dk_132 3 1 (dk_at dksX1_wide_5 0 rfl rfl)
theorem dX1_wide_120 : decode cX1_wide 120 = .ok (.goto (-70), 3) := dk_167 255 186 (dk_at dksX1_wide_5 3 rfl rfl)
theorem dX1_wide_123 : decode cX1_wide 123 = .ok (.iload_n 2, 1) := dk_28 (dk_at dksX1_wide_5 6 rfl rfl)
theorem dX1_wide_124 : decode cX1_wide 124 = .ok (.ireturn, 1) := dk_172 (dk_at dksX1_wide_5 7 rfl rfl)
def dkwX1_change_6 : List UInt8 := [116, 21, 5, 104, 25, 4, 4, 46, 116, 21, 5, 104, 25, 4, 3, 46, 21, 5, 104, 182, 1, 75, 4, 172]
abbrev dktX1_change_6 : List UInt8 := dkwX1_change_6 ++ []
def dkwX1_change_5 : List UInt8 := [46, 182, 1, 75, 42, 45, 182, 0, 227, 45, 182, 0, 230, 25, 4, 6, 46, 21, 5, 104, 25, 4, 5, 46]
abbrev dktX1_change_5 : List UInt8 := dkwX1_change_5 ++ dktX1_change_6
def dkwX1_change_4 : List UInt8 := [42, 45, 182, 0, 221, 45, 182, 0, 224, 25, 4, 3, 46, 25, 4, 4, 46, 25, 4, 5, 46, 25, 4, 6]
abbrev dktX1_change_4 : List UInt8 := dkwX1_change_4 ++ dktX1_change_5
def dkwX1_change_3 : List UInt8 := [25, 4, 6, 46, 104, 25, 4, 4, 46, 25, 4, 5, 46, 104, 100, 133, 182, 0, 134, 182, 1, 72, 54, 5]
abbrev dktX1_change_3 : List UInt8 := dkwX1_change_3 ++ dktX1_change_4
def dkwX1_change_2 : List UInt8 := [182, 0, 107, 192, 0, 173, 180, 0, 175, 58, 4, 42, 180, 0, 20, 42, 180, 0, 20, 25, 4, 3, 46]
abbrev dktX1_change_2 : List UInt8 := dkwX1_change_2 ++ dktX1_change_3
def dkwX1_change_1 : List UInt8 := [180, 0, 27, 180, 0, 104, 27, 182, 0, 217, 192, 0, 219, 78, 42, 180, 0, 20, 180, 0, 98, 28]
abbrev dktX1_change_1 : List UInt8 := dkwX1_change_1 ++ dktX1_change_2
def dkwX1_change_0 : List UInt8 := [42, 27, 182, 0, 214, 153, 0, 11, 42, 28, 182, 0, 165, 154, 0, 5, 3, 172, 42, 182, 1, 69, 42]
abbrev dktX1_change_0 : List UInt8 := dkwX1_change_0 ++ dktX1_change_1
theorem dksX1_change_0 : cX1_change.data.toList.drop 0 = dktX1_change_0 := by decide +kernel
theorem dksX1_change_1 : cX1_change.data.toList.drop 23 = dktX1_change_1 := dk_seg dksX1_change_0 23 rfl rfl
theorem dksX1_change_2 : cX1_change.data.toList.drop 45 = dktX1_change_2 := dk_seg dksX1_change_1 22 rfl rfl
theorem dksX1_change_3 : cX1_change.data.toList.drop 68 = dktX1_change_3 := dk_seg dksX1_change_2 23 rfl rfl
theorem dksX1_change_4 : cX1_change.data.toList.drop 92 = dktX1_change_4 := dk_seg dksX1_change_3 24 rfl rfl
theorem dksX1_change_5 : cX1_change.data.toList.drop 116 = dktX1_change_5 := dk_seg dksX1_change_4 24 rfl rfl
theorem dksX1_change_6 : cX1_change.data.toList.drop 140 = dktX1_change_6 := dk_seg dksX1_change_5 24 rfl rfl
theorem dX1_change_0 : decode cX1_change 0 = .ok (.aload_n 0, 1) := dk_42 (dk_at dksX1_change_0 0 rfl rfl)
theorem dX1_change_1 : decode cX1_change 1 = .ok (.iload_n 1, 1) := dk_27 (dk_at dksX1_change_0 1 rfl rfl)
theorem dX1_change_2 : decode cX1_change 2 = .ok (.invokevirtual 214, 3) := dk_182 0 214 (dk_at dksX1_change_0 2 rfl rfl)
theorem dX1_change_5 : decode cX1_change 5 = .ok (.ifCond .eq 11, 3) := dk_153 0 11 (dk_at dksX1_change_0 5 rfl rfl)
theorem dX1_change_8 : decode cX1_change 8 = .ok (.aload_n 0, 1) := dk_42 (dk_at dksX1_change_0 8 rfl rfl)
theorem dX1_change_9 : decode cX1_change 9 = .ok (.iload_n 2, 1) := dk_28 (dk_at dksX1_change_0 9 rfl rfl)
theorem dX1_change_10 : decode cX1_change 10 = .ok (.invokevirtual 165, 3) := dk_182 0 165 (dk_at dksX1_change_0 10 rfl rfl)
theorem dX1_change_13 : decode cX1_change 13 = .ok (.ifCond .ne 5, 3) := dk_154 0 5 (dk_at dksX1_change_0 13 rfl rfl)
theorem dX1_change_16 : decode cX1_change 16 = .ok (.iconst 0, 1) := dk_3 (dk_at dksX1_change_0 16 rfl rfl)
theorem dX1_change_17 : decode cX1_change 17 = .ok (.ireturn, 1) := dk_172 (dk_at dksX1_change_0 17 rfl rfl)
theorem dX1_change_18 : decode cX1_change 18 = .ok (.aload_n 0, 1) := dk_42 (dk_at dksX1_change_0 18 rfl rfl)
theorem dX1_change_19 : decode cX1_change 19 = .ok (.invokevirtual 325, 3) := dk_182 1 69 (dk_at dksX1_change_0 19 rfl rfl)
theorem dX1_change_22 : decode cX1_change 22 = .ok (.aload_n 0, 1) := dk_42 (dk_at dksX1_change_0 22 rfl rfl)
theorem dX1_change_23 : decode cX1_change 23 = .ok (.getfield 27, 3) := dk_180 0 27 (dk_at dksX1_change_1 0 rfl rfl)
theorem dX1_change_26 : decode cX1_change 26 = .ok (.getfield 104, 3) := dk_180 0 104 (dk_at dksX1_change_1 3 rfl rfl)
theorem dX1_change_29 : decode cX1_change 29 = .ok (.iload_n 1, 1) := dk_27 (dk_at dksX1_change_1 6 rfl rfl)
theorem dX1_change_30 : decode cX1_change 30 = .ok (.invokevirtual 217, 3) := dk_182 0 217 (dk_at dksX1_change_1 7 rfl rfl)
theorem dX1_change_33 : decode cX1_change 33 = .ok (.checkcast 219, 3) := dk_192 0 219 (dk_at dksX1_change_1 10 rfl rfl)
theorem dX1_change_36 : decode cX1_change 36 = .ok (.astore_n 3, 1) := dk_78 (dk_at dksX1_change_1 13 rfl rfl)
theorem dX1_change_37 : decode cX1_change 37 = .ok (.aload_n 0, 1) := dk_42 (dk_at dksX1_change_1 14 rfl rfl)
theorem dX1_change_38 : decode cX1_change 38 = .ok (.getfield 20, 3) := dk_180 0 20 (dk_at dksX1_change_1 15 rfl rfl)
theorem dX1_change_41 : decode cX1_change 41 = .ok (.getfield 98, 3) := dk_180 0 98 (dk_at dksX1_change_1 18 rfl rfl)
theorem dX1_change_44 : decode cX1_change 44 = .ok (.iload_n 2, 1) := dk_28 (dk_at dksX1_change_1 21 rfl rfl)
theorem dX1_change_45 : decode cX1_change 45 = .ok (.invokevirtual 107, 3) := dk_182 0 107 (dk_at dksX1_change_2 0 rfl rfl)
theorem dX1_change_48 : decode cX1_change 48 = .ok (.checkcast 173, 3) := dk_192 0 173 (dk_at dksX1_change_2 3 rfl rfl)
theorem dX1_change_51 : decode cX1_change 51 = .ok (.getfield 175, 3) := dk_180 0 175 (dk_at dksX1_change_2 6 rfl rfl)
theorem dX1_change_54 : decode cX1_change 54 = .ok (.astore 4, 2) := dk_58 4 (dk_at dksX1_change_2 9 rfl rfl)
theorem dX1_change_56 : decode cX1_change 56 = .ok (.aload_n 0, 1) := dk_42 (dk_at dksX1_change_2 11 rfl rfl)
theorem dX1_change_57 : decode cX1_change 57 = .ok (.getfield 20, 3) := dk_180 0 20 (dk_at dksX1_change_2 12 rfl rfl)
theorem dX1_change_60 : decode cX1_change 60 = .ok (.aload_n 0, 1) := dk_42 (dk_at dksX1_change_2 15 rfl rfl)
theorem dX1_change_61 : decode cX1_change 61 = .ok (.getfield 20, 3) := dk_180 0 20 (dk_at dksX1_change_2 16 rfl rfl)
theorem dX1_change_64 : decode cX1_change 64 = .ok (.aload 4, 2) := dk_25 4 (dk_at dksX1_change_2 19 rfl rfl)
theorem dX1_change_66 : decode cX1_change 66 = .ok (.iconst 0, 1) := dk_3 (dk_at dksX1_change_2 21 rfl rfl)
theorem dX1_change_67 : decode cX1_change 67 = .ok (.iaload, 1) := dk_46 (dk_at dksX1_change_2 22 rfl rfl)
theorem dX1_change_68 : decode cX1_change 68 = .ok (.aload 4, 2) := dk_25 4 (dk_at dksX1_change_3 0 rfl rfl)
theorem dX1_change_70 : decode cX1_change 70 = .ok (.iconst 3, 1) := dk_6 (dk_at dksX1_change_3 2 rfl rfl)
theorem dX1_change_71 : decode cX1_change 71 = .ok (.iaload, 1) := dk_46 (dk_at dksX1_change_3 3 rfl rfl)
theorem dX1_change_72 : decode cX1_change 72 = .ok (.imul, 1) := dk_104 (dk_at dksX1_change_3 4 rfl rfl)
theorem dX1_change_73 : decode cX1_change 73 = .ok (.aload 4, 2) := dk_25 4 (dk_at dksX1_change_3 5 rfl rfl)
theorem dX1_change_75 : decode cX1_change 75 = .ok (.iconst 1, 1) := dk_4 (dk_at dksX1_change_3 7 rfl rfl)
theorem dX1_change_76 : decode cX1_change 76 = .ok (.iaload, 1) := dk_46 (dk_at dksX1_change_3 8 rfl rfl)
theorem dX1_change_77 : decode cX1_change 77 = .ok (.aload 4, 2) := dk_25 4 (dk_at dksX1_change_3 9 rfl rfl)
theorem dX1_change_79 : decode cX1_change 79 = .ok (.iconst 2, 1) := dk_5 (dk_at dksX1_change_3 11 rfl rfl)
theorem dX1_change_80 : decode cX1_change 80 = .ok (.iaload, 1) := dk_46 (dk_at dksX1_change_3 12 rfl rfl)
theorem dX1_change_81 : decode cX1_change 81 = .ok (.imul, 1) := dk_104 (dk_at dksX1_change_3 13 rfl rfl)
theorem dX1_change_82 : decode cX1_change 82 = .ok (.isub, 1) := dk_100 (dk_at dksX1_change_3 14 rfl rfl)
theorem dX1_change_83 : decode cX1_change 83 = .ok (.i2l, 1) := dk_133 (dk_at dksX1_change_3 15 rfl rfl)
theorem dX1_change_84 : decode cX1_change 84 = .ok (.invokevirtual 134, 3) := dk_182 0 134 (dk_at dksX1_change_3 16 rfl rfl)
theorem dX1_change_87 : decode cX1_change 87 = .ok (.invokevirtual 328, 3) := dk_182 1 72 (dk_at dksX1_change_3 19 rfl rfl)
theorem dX1_change_90 : decode cX1_change 90 = .ok (.istore 5, 2) := dk_54 5 (dk_at dksX1_change_3 22 rfl rfl)
theorem dX1_change_92 : decode cX1_change 92 = .ok (.aload_n 0, 1) := dk_42 (dk_at dksX1_change_4 0 rfl rfl)
theorem dX1_change_93 : decode cX1_change 93 = .ok (.aload_n 3, 1) := dk_45 (dk_at dksX1_change_4 1 rfl rfl)
theorem dX1_change_94 : decode cX1_change 94 = .ok (.invokevirtual 221, 3) := dk_182 0 221 (dk_at dksX1_change_4 2 rfl rfl)
theorem dX1_change_97 : decode cX1_change 97 = .ok (.aload_n 3, 1) := dk_45 (dk_at dksX1_change_4 5 rfl rfl)
theorem dX1_change_98 : decode cX1_change 98 = .ok (.invokevirtual 224, 3) := dk_182 0 224 (dk_at dksX1_change_4 6 rfl rfl)
theorem dX1_change_101 : decode cX1_change 101 = .ok (.aload 4, 2) := dk_25 4 (dk_at dksX1_change_4 9 rfl rfl)
theorem dX1_change_103 : decode cX1_change 103 = .ok (.iconst 0, 1) := dk_3 (dk_at dksX1_change_4 11 rfl rfl)
theorem dX1_change_104 : decode cX1_change 104 = .ok (.iaload, 1) := dk_46 (dk_at dksX1_change_4 12 rfl rfl)
theorem dX1_change_105 : decode cX1_change 105 = .ok (.aload 4, 2) := dk_25 4 (dk_at dksX1_change_4 13 rfl rfl)
theorem dX1_change_107 : decode cX1_change 107 = .ok (.iconst 1, 1) := dk_4 (dk_at dksX1_change_4 15 rfl rfl)
theorem dX1_change_108 : decode cX1_change 108 = .ok (.iaload, 1) := dk_46 (dk_at dksX1_change_4 16 rfl rfl)
theorem dX1_change_109 : decode cX1_change 109 = .ok (.aload 4, 2) := dk_25 4 (dk_at dksX1_change_4 17 rfl rfl)
theorem dX1_change_111 : decode cX1_change 111 = .ok (.iconst 2, 1) := dk_5 (dk_at dksX1_change_4 19 rfl rfl)
theorem dX1_change_112 : decode cX1_change 112 = .ok (.iaload, 1) := dk_46 (dk_at dksX1_change_4 20 rfl rfl)
theorem dX1_change_113 : decode cX1_change 113 = .ok (.aload 4, 2) := dk_25 4 (dk_at dksX1_change_4 21 rfl rfl)
theorem dX1_change_115 : decode cX1_change 115 = .ok (.iconst 3, 1) := dk_6 (dk_at dksX1_change_4 23 rfl rfl)
theorem dX1_change_116 : decode cX1_change 116 = .ok (.iaload, 1) := dk_46 (dk_at dksX1_change_5 0 rfl rfl)
theorem dX1_change_117 : decode cX1_change 117 = .ok (.invokevirtual 331, 3) := dk_182 1 75 (dk_at dksX1_change_5 1 rfl rfl)
theorem dX1_change_120 : decode cX1_change 120 = .ok (.aload_n 0, 1) := dk_42 (dk_at dksX1_change_5 4 rfl rfl)
theorem dX1_change_121 : decode cX1_change 121 = .ok (.aload_n 3, 1) := dk_45 (dk_at dksX1_change_5 5 rfl rfl)
theorem dX1_change_122 : decode cX1_change 122 = .ok (.invokevirtual 227, 3) := dk_182 0 227 (dk_at dksX1_change_5 6 rfl rfl)
theorem dX1_change_125 : decode cX1_change 125 = .ok (.aload_n 3, 1) := dk_45 (dk_at dksX1_change_5 9 rfl rfl)
theorem dX1_change_126 : decode cX1_change 126 = .ok (.invokevirtual 230, 3) := dk_182 0 230 (dk_at dksX1_change_5 10 rfl rfl)
theorem dX1_change_129 : decode cX1_change 129 = .ok (.aload 4, 2) := dk_25 4 (dk_at dksX1_change_5 13 rfl rfl)
theorem dX1_change_131 : decode cX1_change 131 = .ok (.iconst 3, 1) := dk_6 (dk_at dksX1_change_5 15 rfl rfl)
theorem dX1_change_132 : decode cX1_change 132 = .ok (.iaload, 1) := dk_46 (dk_at dksX1_change_5 16 rfl rfl)
theorem dX1_change_133 : decode cX1_change 133 = .ok (.iload 5, 2) := dk_21 5 (dk_at dksX1_change_5 17 rfl rfl)
theorem dX1_change_135 : decode cX1_change 135 = .ok (.imul, 1) := dk_104 (dk_at dksX1_change_5 19 rfl rfl)
theorem dX1_change_136 : decode cX1_change 136 = .ok (.aload 4, 2) := dk_25 4 (dk_at dksX1_change_5 20 rfl rfl)
theorem dX1_change_138 : decode cX1_change 138 = .ok (.iconst 2, 1) := dk_5 (dk_at dksX1_change_5 22 rfl rfl)
theorem dX1_change_139 : decode cX1_change 139 = .ok (.iaload, 1) := dk_46 (dk_at dksX1_change_5 23 rfl rfl)
theorem dX1_change_140 : decode cX1_change 140 = .ok (.ineg, 1) := dk_116 (dk_at dksX1_change_6 0 rfl rfl)
theorem dX1_change_141 : decode cX1_change 141 = .ok (.iload 5, 2) := dk_21 5 (dk_at dksX1_change_6 1 rfl rfl)
theorem dX1_change_143 : decode cX1_change 143 = .ok (.imul, 1) := dk_104 (dk_at dksX1_change_6 3 rfl rfl)
theorem dX1_change_144 : decode cX1_change 144 = .ok (.aload 4, 2) := dk_25 4 (dk_at dksX1_change_6 4 rfl rfl)
theorem dX1_change_146 : decode cX1_change 146 = .ok (.iconst 1, 1) := dk_4 (dk_at dksX1_change_6 6 rfl rfl)
theorem dX1_change_147 : decode cX1_change 147 = .ok (.iaload, 1) := dk_46 (dk_at dksX1_change_6 7 rfl rfl)
theorem dX1_change_148 : decode cX1_change 148 = .ok (.ineg, 1) := dk_116 (dk_at dksX1_change_6 8 rfl rfl)
theorem dX1_change_149 : decode cX1_change 149 = .ok (.iload 5, 2) := dk_21 5 (dk_at dksX1_change_6 9 rfl rfl)
theorem dX1_change_151 : decode cX1_change 151 = .ok (.imul, 1) := dk_104 (dk_at dksX1_change_6 11 rfl rfl)
theorem dX1_change_152 : decode cX1_change 152 = .ok (.aload 4, 2) := dk_25 4 (dk_at dksX1_change_6 12 rfl rfl)
theorem dX1_change_154 : decode cX1_change 154 = .ok (.iconst 0, 1) := dk_3 (dk_at dksX1_change_6 14 rfl rfl)
theorem dX1_change_155 : decode cX1_change 155 = .ok (.iaload, 1) := dk_46 (dk_at dksX1_change_6 15 rfl rfl)
theorem dX1_change_156 : decode cX1_change 156 = .ok (.iload 5, 2) := dk_21 5 (dk_at dksX1_change_6 16 rfl rfl)
theorem dX1_change_158 : decode cX1_change 158 = .ok (.imul, 1) := dk_104 (dk_at dksX1_change_6 18 rfl rfl)
theorem dX1_change_159 : decode cX1_change 159 = .ok (.invokevirtual 331, 3) := dk_182 1 75 (dk_at dksX1_change_6 19 rfl rfl)
theorem dX1_change_162 : decode cX1_change 162 = .ok (.iconst 1, 1) := dk_4 (dk_at dksX1_change_6 22 rfl rfl)
theorem dX1_change_163 : decode cX1_change 163 = .ok (.ireturn, 1) := dk_172 (dk_at dksX1_change_6 23 rfl rfl)
def dkwX1_isWire_0 : List UInt8 := [27, 133, 9, 42, 180, 0, 27, 180, 0, 104, 182, 0, 46, 4, 100, 133, 184, 0, 61, 172]
abbrev dktX1_isWire_0 : List UInt8 := dkwX1_isWire_0 ++ []
theorem dksX1_isWire_0 : cX1_isWire.data.toList.drop 0 = dktX1_isWire_0 := by decide +kernel
theorem dX1_isWire_0 : decode cX1_isWire 0 = .ok (.iload_n 1, 1) := dk_27 (dk_at dksX1_isWire_0 0 rfl rfl)
theorem dX1_isWire_1 : decode cX1_isWire 1 = .ok (.i2l, 1) := dk_133 (dk_at dksX1_isWire_0 1 rfl rfl)
theorem dX1_isWire_2 : decode cX1_isWire 2 = .ok (.lconst 0, 1) := dk_9 (dk_at dksX1_isWire_0 2 rfl rfl)
theorem dX1_isWire_3 : decode cX1_isWire 3 = .ok (.aload_n 0, 1) := dk_42 (dk_at dksX1_isWire_0 3 rfl rfl)
theorem dX1_isWire_4 : decode cX1_isWire 4 = .ok (.getfield 27, 3) := dk_180 0 27 (dk_at dksX1_isWire_0 4 rfl rfl)
theorem dX1_isWire_7 : decode cX1_isWire 7 = .ok (.getfield 104, 3) := dk_180 0 104 (dk_at dksX1_isWire_0 7 rfl rfl)
theorem dX1_isWire_10 : decode cX1_isWire 10 = .ok (.invokevirtual 46, 3) := dk_182 0 46 (dk_at dksX1_isWire_0 10 rfl rfl)
theorem dX1_isWire_13 : decode cX1_isWire 13 = .ok (.iconst 1, 1) := dk_4 (dk_at dksX1_isWire_0 13 rfl rfl)
theorem dX1_isWire_14 : decode cX1_isWire 14 = .ok (.isub, 1) := dk_100 (dk_at dksX1_isWire_0 14 rfl rfl)
theorem dX1_isWire_15 : decode cX1_isWire 15 = .ok (.i2l, 1) := dk_133 (dk_at dksX1_isWire_0 15 rfl rfl)
theorem dX1_isWire_16 : decode cX1_isWire 16 = .ok (.invokestatic 61, 3) := dk_184 0 61 (dk_at dksX1_isWire_0 16 rfl rfl)
theorem dX1_isWire_19 : decode cX1_isWire 19 = .ok (.ireturn, 1) := dk_172 (dk_at dksX1_isWire_0 19 rfl rfl)
def dkwX1_keepsAhead_1 : List UInt8 := [180, 0, 34, 187, 0, 24, 89, 42, 180, 0, 27, 183, 0, 54, 182, 0, 57, 87, 177]
abbrev dktX1_keepsAhead_1 : List UInt8 := dkwX1_keepsAhead_1 ++ []
def dkwX1_keepsAhead_0 : List UInt8 := [42, 180, 0, 34, 182, 0, 46, 16, 12, 160, 0, 12, 42, 180, 0, 34, 3, 182, 0, 50, 87, 42]
abbrev dktX1_keepsAhead_0 : List UInt8 := dkwX1_keepsAhead_0 ++ dktX1_keepsAhead_1
theorem dksX1_keepsAhead_0 : cX1_keepsAhead.data.toList.drop 0 = dktX1_keepsAhead_0 := by decide +kernel
theorem dksX1_keepsAhead_1 : cX1_keepsAhead.data.toList.drop 22 = dktX1_keepsAhead_1 := dk_seg dksX1_keepsAhead_0 22 rfl rfl
theorem dX1_keepsAhead_0 : decode cX1_keepsAhead 0 = .ok (.aload_n 0, 1) := dk_42 (dk_at dksX1_keepsAhead_0 0 rfl rfl)
theorem dX1_keepsAhead_1 : decode cX1_keepsAhead 1 = .ok (.getfield 34, 3) := dk_180 0 34 (dk_at dksX1_keepsAhead_0 1 rfl rfl)
theorem dX1_keepsAhead_4 : decode cX1_keepsAhead 4 = .ok (.invokevirtual 46, 3) := dk_182 0 46 (dk_at dksX1_keepsAhead_0 4 rfl rfl)
theorem dX1_keepsAhead_7 : decode cX1_keepsAhead 7 = .ok (.bipush 12, 2) := dk_16 12 (dk_at dksX1_keepsAhead_0 7 rfl rfl)
theorem dX1_keepsAhead_9 : decode cX1_keepsAhead 9 = .ok (.if_icmp .ne 12, 3) := dk_160 0 12 (dk_at dksX1_keepsAhead_0 9 rfl rfl)
theorem dX1_keepsAhead_12 : decode cX1_keepsAhead 12 = .ok (.aload_n 0, 1) := dk_42 (dk_at dksX1_keepsAhead_0 12 rfl rfl)
theorem dX1_keepsAhead_13 : decode cX1_keepsAhead 13 = .ok (.getfield 34, 3) := dk_180 0 34 (dk_at dksX1_keepsAhead_0 13 rfl rfl)
theorem dX1_keepsAhead_16 : decode cX1_keepsAhead 16 = .ok (.iconst 0, 1) := dk_3 (dk_at dksX1_keepsAhead_0 16 rfl rfl)
theorem dX1_keepsAhead_17 : decode cX1_keepsAhead 17 = .ok (.invokevirtual 50, 3) := dk_182 0 50 (dk_at dksX1_keepsAhead_0 17 rfl rfl)
theorem dX1_keepsAhead_20 : decode cX1_keepsAhead 20 = .ok (.pop, 1) := dk_87 (dk_at dksX1_keepsAhead_0 20 rfl rfl)
theorem dX1_keepsAhead_21 : decode cX1_keepsAhead 21 = .ok (.aload_n 0, 1) := dk_42 (dk_at dksX1_keepsAhead_0 21 rfl rfl)
theorem dX1_keepsAhead_22 : decode cX1_keepsAhead 22 = .ok (.getfield 34, 3) := dk_180 0 34 (dk_at dksX1_keepsAhead_1 0 rfl rfl)
theorem dX1_keepsAhead_25 : decode cX1_keepsAhead 25 = .ok (.new 24, 3) := dk_187 0 24 (dk_at dksX1_keepsAhead_1 3 rfl rfl)
theorem dX1_keepsAhead_28 : decode cX1_keepsAhead 28 = .ok (.dup, 1) := dk_89 (dk_at dksX1_keepsAhead_1 6 rfl rfl)
theorem dX1_keepsAhead_29 : decode cX1_keepsAhead 29 = .ok (.aload_n 0, 1) := dk_42 (dk_at dksX1_keepsAhead_1 7 rfl rfl)
theorem dX1_keepsAhead_30 : decode cX1_keepsAhead 30 = .ok (.getfield 27, 3) := dk_180 0 27 (dk_at dksX1_keepsAhead_1 8 rfl rfl)
theorem dX1_keepsAhead_33 : decode cX1_keepsAhead 33 = .ok (.invokespecial 54, 3) := dk_183 0 54 (dk_at dksX1_keepsAhead_1 11 rfl rfl)
theorem dX1_keepsAhead_36 : decode cX1_keepsAhead 36 = .ok (.invokevirtual 57, 3) := dk_182 0 57 (dk_at dksX1_keepsAhead_1 14 rfl rfl)
theorem dX1_keepsAhead_39 : decode cX1_keepsAhead 39 = .ok (.pop, 1) := dk_87 (dk_at dksX1_keepsAhead_1 17 rfl rfl)
theorem dX1_keepsAhead_40 : decode cX1_keepsAhead 40 = .ok (.return_, 1) := dk_177 (dk_at dksX1_keepsAhead_1 18 rfl rfl)
def dkwX1_changes_2_1 : List UInt8 := [177]
abbrev dktX1_changes_2_1 : List UInt8 := dkwX1_changes_2_1 ++ []
def dkwX1_changes_2_0 : List UInt8 := [42, 27, 182, 1, 65, 58, 7, 42, 25, 7, 25, 7, 190, 28, 29, 21, 4, 21, 5, 21, 6, 182, 0, 184]
abbrev dktX1_changes_2_0 : List UInt8 := dkwX1_changes_2_0 ++ dktX1_changes_2_1
theorem dksX1_changes_2_0 : cX1_changes_2.data.toList.drop 0 = dktX1_changes_2_0 := by decide +kernel
theorem dksX1_changes_2_1 : cX1_changes_2.data.toList.drop 24 = dktX1_changes_2_1 := dk_seg dksX1_changes_2_0 24 rfl rfl
theorem dX1_changes_2_0 : decode cX1_changes_2 0 = .ok (.aload_n 0, 1) := dk_42 (dk_at dksX1_changes_2_0 0 rfl rfl)
theorem dX1_changes_2_1 : decode cX1_changes_2 1 = .ok (.iload_n 1, 1) := dk_27 (dk_at dksX1_changes_2_0 1 rfl rfl)
theorem dX1_changes_2_2 : decode cX1_changes_2 2 = .ok (.invokevirtual 321, 3) := dk_182 1 65 (dk_at dksX1_changes_2_0 2 rfl rfl)
theorem dX1_changes_2_5 : decode cX1_changes_2 5 = .ok (.astore 7, 2) := dk_58 7 (dk_at dksX1_changes_2_0 5 rfl rfl)
theorem dX1_changes_2_7 : decode cX1_changes_2 7 = .ok (.aload_n 0, 1) := dk_42 (dk_at dksX1_changes_2_0 7 rfl rfl)
theorem dX1_changes_2_8 : decode cX1_changes_2 8 = .ok (.aload 7, 2) := dk_25 7 (dk_at dksX1_changes_2_0 8 rfl rfl)
theorem dX1_changes_2_10 : decode cX1_changes_2 10 = .ok (.aload 7, 2) := dk_25 7 (dk_at dksX1_changes_2_0 10 rfl rfl)
theorem dX1_changes_2_12 : decode cX1_changes_2 12 = .ok (.arraylength, 1) := dk_190 (dk_at dksX1_changes_2_0 12 rfl rfl)
theorem dX1_changes_2_13 : decode cX1_changes_2 13 = .ok (.iload_n 2, 1) := dk_28 (dk_at dksX1_changes_2_0 13 rfl rfl)
theorem dX1_changes_2_14 : decode cX1_changes_2 14 = .ok (.iload_n 3, 1) := dk_29 (dk_at dksX1_changes_2_0 14 rfl rfl)
theorem dX1_changes_2_15 : decode cX1_changes_2 15 = .ok (.iload 4, 2) := dk_21 4 (dk_at dksX1_changes_2_0 15 rfl rfl)
theorem dX1_changes_2_17 : decode cX1_changes_2 17 = .ok (.iload 5, 2) := dk_21 5 (dk_at dksX1_changes_2_0 17 rfl rfl)
theorem dX1_changes_2_19 : decode cX1_changes_2 19 = .ok (.iload 6, 2) := dk_21 6 (dk_at dksX1_changes_2_0 19 rfl rfl)
theorem dX1_changes_2_21 : decode cX1_changes_2 21 = .ok (.invokevirtual 184, 3) := dk_182 0 184 (dk_at dksX1_changes_2_0 21 rfl rfl)
theorem dX1_changes_2_24 : decode cX1_changes_2 24 = .ok (.return_, 1) := dk_177 (dk_at dksX1_changes_2_1 0 rfl rfl)
def dkwX1_fresh_1 : List UInt8 := [42, 180, 0, 27, 180, 0, 211, 27, 50, 176]
abbrev dktX1_fresh_1 : List UInt8 := dkwX1_fresh_1 ++ []
def dkwX1_fresh_0 : List UInt8 := [42, 180, 0, 27, 180, 0, 211, 27, 42, 180, 0, 27, 180, 0, 211, 27, 50, 182, 1, 61, 192, 1, 62, 83]
abbrev dktX1_fresh_0 : List UInt8 := dkwX1_fresh_0 ++ dktX1_fresh_1
theorem dksX1_fresh_0 : cX1_fresh.data.toList.drop 0 = dktX1_fresh_0 := by decide +kernel
theorem dksX1_fresh_1 : cX1_fresh.data.toList.drop 24 = dktX1_fresh_1 := dk_seg dksX1_fresh_0 24 rfl rfl
theorem dX1_fresh_0 : decode cX1_fresh 0 = .ok (.aload_n 0, 1) := dk_42 (dk_at dksX1_fresh_0 0 rfl rfl)
theorem dX1_fresh_1 : decode cX1_fresh 1 = .ok (.getfield 27, 3) := dk_180 0 27 (dk_at dksX1_fresh_0 1 rfl rfl)
theorem dX1_fresh_4 : decode cX1_fresh 4 = .ok (.getfield 211, 3) := dk_180 0 211 (dk_at dksX1_fresh_0 4 rfl rfl)
theorem dX1_fresh_7 : decode cX1_fresh 7 = .ok (.iload_n 1, 1) := dk_27 (dk_at dksX1_fresh_0 7 rfl rfl)
theorem dX1_fresh_8 : decode cX1_fresh 8 = .ok (.aload_n 0, 1) := dk_42 (dk_at dksX1_fresh_0 8 rfl rfl)
theorem dX1_fresh_9 : decode cX1_fresh 9 = .ok (.getfield 27, 3) := dk_180 0 27 (dk_at dksX1_fresh_0 9 rfl rfl)
theorem dX1_fresh_12 : decode cX1_fresh 12 = .ok (.getfield 211, 3) := dk_180 0 211 (dk_at dksX1_fresh_0 12 rfl rfl)
theorem dX1_fresh_15 : decode cX1_fresh 15 = .ok (.iload_n 1, 1) := dk_27 (dk_at dksX1_fresh_0 15 rfl rfl)
theorem dX1_fresh_16 : decode cX1_fresh 16 = .ok (.aaload, 1) := dk_50 (dk_at dksX1_fresh_0 16 rfl rfl)
theorem dX1_fresh_17 : decode cX1_fresh 17 = .ok (.invokevirtual 317, 3) := dk_182 1 61 (dk_at dksX1_fresh_0 17 rfl rfl)
theorem dX1_fresh_20 : decode cX1_fresh 20 = .ok (.checkcast 318, 3) := dk_192 1 62 (dk_at dksX1_fresh_0 20 rfl rfl)
theorem dX1_fresh_23 : decode cX1_fresh 23 = .ok (.aastore, 1) := dk_83 (dk_at dksX1_fresh_0 23 rfl rfl)
theorem dX1_fresh_24 : decode cX1_fresh 24 = .ok (.aload_n 0, 1) := dk_42 (dk_at dksX1_fresh_1 0 rfl rfl)
theorem dX1_fresh_25 : decode cX1_fresh 25 = .ok (.getfield 27, 3) := dk_180 0 27 (dk_at dksX1_fresh_1 1 rfl rfl)
theorem dX1_fresh_28 : decode cX1_fresh 28 = .ok (.getfield 211, 3) := dk_180 0 211 (dk_at dksX1_fresh_1 4 rfl rfl)
theorem dX1_fresh_31 : decode cX1_fresh 31 = .ok (.iload_n 1, 1) := dk_27 (dk_at dksX1_fresh_1 7 rfl rfl)
theorem dX1_fresh_32 : decode cX1_fresh 32 = .ok (.aaload, 1) := dk_50 (dk_at dksX1_fresh_1 8 rfl rfl)
theorem dX1_fresh_33 : decode cX1_fresh 33 = .ok (.areturn, 1) := dk_176 (dk_at dksX1_fresh_1 9 rfl rfl)
def dkwX1_plug_2 : List UInt8 := [28, 182, 0, 117, 180, 0, 124, 83, 4, 172]
abbrev dktX1_plug_2 : List UInt8 := dkwX1_plug_2 ++ []
def dkwX1_plug_1 : List UInt8 := [182, 0, 117, 180, 0, 121, 159, 0, 5, 3, 172, 42, 182, 1, 69, 42, 180, 0, 27, 180, 0, 211, 27, 42]
abbrev dktX1_plug_1 : List UInt8 := dkwX1_plug_1 ++ dktX1_plug_2
def dkwX1_plug_0 : List UInt8 := [42, 27, 182, 0, 205, 153, 0, 27, 42, 28, 182, 0, 113, 153, 0, 19, 42, 27, 182, 0, 208, 42, 28]
abbrev dktX1_plug_0 : List UInt8 := dkwX1_plug_0 ++ dktX1_plug_1
theorem dksX1_plug_0 : cX1_plug.data.toList.drop 0 = dktX1_plug_0 := by decide +kernel
theorem dksX1_plug_1 : cX1_plug.data.toList.drop 23 = dktX1_plug_1 := dk_seg dksX1_plug_0 23 rfl rfl
theorem dksX1_plug_2 : cX1_plug.data.toList.drop 47 = dktX1_plug_2 := dk_seg dksX1_plug_1 24 rfl rfl
theorem dX1_plug_0 : decode cX1_plug 0 = .ok (.aload_n 0, 1) := dk_42 (dk_at dksX1_plug_0 0 rfl rfl)
theorem dX1_plug_1 : decode cX1_plug 1 = .ok (.iload_n 1, 1) := dk_27 (dk_at dksX1_plug_0 1 rfl rfl)
theorem dX1_plug_2 : decode cX1_plug 2 = .ok (.invokevirtual 205, 3) := dk_182 0 205 (dk_at dksX1_plug_0 2 rfl rfl)
theorem dX1_plug_5 : decode cX1_plug 5 = .ok (.ifCond .eq 27, 3) := dk_153 0 27 (dk_at dksX1_plug_0 5 rfl rfl)
theorem dX1_plug_8 : decode cX1_plug 8 = .ok (.aload_n 0, 1) := dk_42 (dk_at dksX1_plug_0 8 rfl rfl)
theorem dX1_plug_9 : decode cX1_plug 9 = .ok (.iload_n 2, 1) := dk_28 (dk_at dksX1_plug_0 9 rfl rfl)
theorem dX1_plug_10 : decode cX1_plug 10 = .ok (.invokevirtual 113, 3) := dk_182 0 113 (dk_at dksX1_plug_0 10 rfl rfl)
theorem dX1_plug_13 : decode cX1_plug 13 = .ok (.ifCond .eq 19, 3) := dk_153 0 19 (dk_at dksX1_plug_0 13 rfl rfl)
theorem dX1_plug_16 : decode cX1_plug 16 = .ok (.aload_n 0, 1) := dk_42 (dk_at dksX1_plug_0 16 rfl rfl)
theorem dX1_plug_17 : decode cX1_plug 17 = .ok (.iload_n 1, 1) := dk_27 (dk_at dksX1_plug_0 17 rfl rfl)
theorem dX1_plug_18 : decode cX1_plug 18 = .ok (.invokevirtual 208, 3) := dk_182 0 208 (dk_at dksX1_plug_0 18 rfl rfl)
theorem dX1_plug_21 : decode cX1_plug 21 = .ok (.aload_n 0, 1) := dk_42 (dk_at dksX1_plug_0 21 rfl rfl)
theorem dX1_plug_22 : decode cX1_plug 22 = .ok (.iload_n 2, 1) := dk_28 (dk_at dksX1_plug_0 22 rfl rfl)
theorem dX1_plug_23 : decode cX1_plug 23 = .ok (.invokevirtual 117, 3) := dk_182 0 117 (dk_at dksX1_plug_1 0 rfl rfl)
theorem dX1_plug_26 : decode cX1_plug 26 = .ok (.getfield 121, 3) := dk_180 0 121 (dk_at dksX1_plug_1 3 rfl rfl)
theorem dX1_plug_29 : decode cX1_plug 29 = .ok (.if_icmp .eq 5, 3) := dk_159 0 5 (dk_at dksX1_plug_1 6 rfl rfl)
theorem dX1_plug_32 : decode cX1_plug 32 = .ok (.iconst 0, 1) := dk_3 (dk_at dksX1_plug_1 9 rfl rfl)
theorem dX1_plug_33 : decode cX1_plug 33 = .ok (.ireturn, 1) := dk_172 (dk_at dksX1_plug_1 10 rfl rfl)
theorem dX1_plug_34 : decode cX1_plug 34 = .ok (.aload_n 0, 1) := dk_42 (dk_at dksX1_plug_1 11 rfl rfl)
theorem dX1_plug_35 : decode cX1_plug 35 = .ok (.invokevirtual 325, 3) := dk_182 1 69 (dk_at dksX1_plug_1 12 rfl rfl)
theorem dX1_plug_38 : decode cX1_plug 38 = .ok (.aload_n 0, 1) := dk_42 (dk_at dksX1_plug_1 15 rfl rfl)
theorem dX1_plug_39 : decode cX1_plug 39 = .ok (.getfield 27, 3) := dk_180 0 27 (dk_at dksX1_plug_1 16 rfl rfl)
theorem dX1_plug_42 : decode cX1_plug 42 = .ok (.getfield 211, 3) := dk_180 0 211 (dk_at dksX1_plug_1 19 rfl rfl)
theorem dX1_plug_45 : decode cX1_plug 45 = .ok (.iload_n 1, 1) := dk_27 (dk_at dksX1_plug_1 22 rfl rfl)
theorem dX1_plug_46 : decode cX1_plug 46 = .ok (.aload_n 0, 1) := dk_42 (dk_at dksX1_plug_1 23 rfl rfl)
theorem dX1_plug_47 : decode cX1_plug 47 = .ok (.iload_n 2, 1) := dk_28 (dk_at dksX1_plug_2 0 rfl rfl)
theorem dX1_plug_48 : decode cX1_plug 48 = .ok (.invokevirtual 117, 3) := dk_182 0 117 (dk_at dksX1_plug_2 1 rfl rfl)
theorem dX1_plug_51 : decode cX1_plug 51 = .ok (.getfield 124, 3) := dk_180 0 124 (dk_at dksX1_plug_2 4 rfl rfl)
theorem dX1_plug_54 : decode cX1_plug 54 = .ok (.aastore, 1) := dk_83 (dk_at dksX1_plug_2 7 rfl rfl)
theorem dX1_plug_55 : decode cX1_plug 55 = .ok (.iconst 1, 1) := dk_4 (dk_at dksX1_plug_2 8 rfl rfl)
theorem dX1_plug_56 : decode cX1_plug 56 = .ok (.ireturn, 1) := dk_172 (dk_at dksX1_plug_2 9 rfl rfl)
def dkwX1_scale_3 : List UInt8 := [132, 4, 1, 167, 255, 227, 4, 172]
abbrev dktX1_scale_3 : List UInt8 := dkwX1_scale_3 ++ []
def dkwX1_scale_2 : List UInt8 := [162, 0, 28, 45, 21, 4, 42, 180, 0, 20, 28, 133, 45, 21, 4, 46, 133, 105, 182, 0, 134, 79]
abbrev dktX1_scale_2 : List UInt8 := dkwX1_scale_2 ++ dktX1_scale_3
def dkwX1_scale_1 : List UInt8 := [154, 0, 5, 3, 172, 42, 182, 1, 69, 42, 27, 182, 1, 65, 78, 3, 54, 4, 21, 4, 45, 190]
abbrev dktX1_scale_1 : List UInt8 := dkwX1_scale_1 ++ dktX1_scale_2
def dkwX1_scale_0 : List UInt8 := [42, 27, 182, 0, 205, 153, 0, 22, 28, 133, 10, 42, 180, 0, 20, 180, 0, 146, 4, 100, 133, 184, 0, 61]
abbrev dktX1_scale_0 : List UInt8 := dkwX1_scale_0 ++ dktX1_scale_1
theorem dksX1_scale_0 : cX1_scale.data.toList.drop 0 = dktX1_scale_0 := by decide +kernel
theorem dksX1_scale_1 : cX1_scale.data.toList.drop 24 = dktX1_scale_1 := dk_seg dksX1_scale_0 24 rfl rfl
theorem dksX1_scale_2 : cX1_scale.data.toList.drop 46 = dktX1_scale_2 := dk_seg dksX1_scale_1 22 rfl rfl
theorem dksX1_scale_3 : cX1_scale.data.toList.drop 68 = dktX1_scale_3 := dk_seg dksX1_scale_2 22 rfl rfl
theorem dX1_scale_0 : decode cX1_scale 0 = .ok (.aload_n 0, 1) := dk_42 (dk_at dksX1_scale_0 0 rfl rfl)
theorem dX1_scale_1 : decode cX1_scale 1 = .ok (.iload_n 1, 1) := dk_27 (dk_at dksX1_scale_0 1 rfl rfl)
theorem dX1_scale_2 : decode cX1_scale 2 = .ok (.invokevirtual 205, 3) := dk_182 0 205 (dk_at dksX1_scale_0 2 rfl rfl)
theorem dX1_scale_5 : decode cX1_scale 5 = .ok (.ifCond .eq 22, 3) := dk_153 0 22 (dk_at dksX1_scale_0 5 rfl rfl)
theorem dX1_scale_8 : decode cX1_scale 8 = .ok (.iload_n 2, 1) := dk_28 (dk_at dksX1_scale_0 8 rfl rfl)
theorem dX1_scale_9 : decode cX1_scale 9 = .ok (.i2l, 1) := dk_133 (dk_at dksX1_scale_0 9 rfl rfl)
theorem dX1_scale_10 : decode cX1_scale 10 = .ok (.lconst 1, 1) := dk_10 (dk_at dksX1_scale_0 10 rfl rfl)
theorem dX1_scale_11 : decode cX1_scale 11 = .ok (.aload_n 0, 1) := dk_42 (dk_at dksX1_scale_0 11 rfl rfl)
theorem dX1_scale_12 : decode cX1_scale 12 = .ok (.getfield 20, 3) := dk_180 0 20 (dk_at dksX1_scale_0 12 rfl rfl)
theorem dX1_scale_15 : decode cX1_scale 15 = .ok (.getfield 146, 3) := dk_180 0 146 (dk_at dksX1_scale_0 15 rfl rfl)
theorem dX1_scale_18 : decode cX1_scale 18 = .ok (.iconst 1, 1) := dk_4 (dk_at dksX1_scale_0 18 rfl rfl)
theorem dX1_scale_19 : decode cX1_scale 19 = .ok (.isub, 1) := dk_100 (dk_at dksX1_scale_0 19 rfl rfl)
theorem dX1_scale_20 : decode cX1_scale 20 = .ok (.i2l, 1) := dk_133 (dk_at dksX1_scale_0 20 rfl rfl)
theorem dX1_scale_21 : decode cX1_scale 21 = .ok (.invokestatic 61, 3) := dk_184 0 61 (dk_at dksX1_scale_0 21 rfl rfl)
theorem dX1_scale_24 : decode cX1_scale 24 = .ok (.ifCond .ne 5, 3) := dk_154 0 5 (dk_at dksX1_scale_1 0 rfl rfl)
theorem dX1_scale_27 : decode cX1_scale 27 = .ok (.iconst 0, 1) := dk_3 (dk_at dksX1_scale_1 3 rfl rfl)
theorem dX1_scale_28 : decode cX1_scale 28 = .ok (.ireturn, 1) := dk_172 (dk_at dksX1_scale_1 4 rfl rfl)
theorem dX1_scale_29 : decode cX1_scale 29 = .ok (.aload_n 0, 1) := dk_42 (dk_at dksX1_scale_1 5 rfl rfl)
theorem dX1_scale_30 : decode cX1_scale 30 = .ok (.invokevirtual 325, 3) := dk_182 1 69 (dk_at dksX1_scale_1 6 rfl rfl)
theorem dX1_scale_33 : decode cX1_scale 33 = .ok (.aload_n 0, 1) := dk_42 (dk_at dksX1_scale_1 9 rfl rfl)
theorem dX1_scale_34 : decode cX1_scale 34 = .ok (.iload_n 1, 1) := dk_27 (dk_at dksX1_scale_1 10 rfl rfl)
theorem dX1_scale_35 : decode cX1_scale 35 = .ok (.invokevirtual 321, 3) := dk_182 1 65 (dk_at dksX1_scale_1 11 rfl rfl)
theorem dX1_scale_38 : decode cX1_scale 38 = .ok (.astore_n 3, 1) := dk_78 (dk_at dksX1_scale_1 14 rfl rfl)
theorem dX1_scale_39 : decode cX1_scale 39 = .ok (.iconst 0, 1) := dk_3 (dk_at dksX1_scale_1 15 rfl rfl)
theorem dX1_scale_40 : decode cX1_scale 40 = .ok (.istore 4, 2) := dk_54 4 (dk_at dksX1_scale_1 16 rfl rfl)
theorem dX1_scale_42 : decode cX1_scale 42 = .ok (.iload 4, 2) := dk_21 4 (dk_at dksX1_scale_1 18 rfl rfl)
theorem dX1_scale_44 : decode cX1_scale 44 = .ok (.aload_n 3, 1) := dk_45 (dk_at dksX1_scale_1 20 rfl rfl)
theorem dX1_scale_45 : decode cX1_scale 45 = .ok (.arraylength, 1) := dk_190 (dk_at dksX1_scale_1 21 rfl rfl)
theorem dX1_scale_46 : decode cX1_scale 46 = .ok (.if_icmp .ge 28, 3) := dk_162 0 28 (dk_at dksX1_scale_2 0 rfl rfl)
theorem dX1_scale_49 : decode cX1_scale 49 = .ok (.aload_n 3, 1) := dk_45 (dk_at dksX1_scale_2 3 rfl rfl)
theorem dX1_scale_50 : decode cX1_scale 50 = .ok (.iload 4, 2) := dk_21 4 (dk_at dksX1_scale_2 4 rfl rfl)
theorem dX1_scale_52 : decode cX1_scale 52 = .ok (.aload_n 0, 1) := dk_42 (dk_at dksX1_scale_2 6 rfl rfl)
theorem dX1_scale_53 : decode cX1_scale 53 = .ok (.getfield 20, 3) := dk_180 0 20 (dk_at dksX1_scale_2 7 rfl rfl)
theorem dX1_scale_56 : decode cX1_scale 56 = .ok (.iload_n 2, 1) := dk_28 (dk_at dksX1_scale_2 10 rfl rfl)
theorem dX1_scale_57 : decode cX1_scale 57 = .ok (.i2l, 1) := dk_133 (dk_at dksX1_scale_2 11 rfl rfl)
theorem dX1_scale_58 : decode cX1_scale 58 = .ok (.aload_n 3, 1) := dk_45 (dk_at dksX1_scale_2 12 rfl rfl)
theorem dX1_scale_59 : decode cX1_scale 59 = .ok (.iload 4, 2) := dk_21 4 (dk_at dksX1_scale_2 13 rfl rfl)
theorem dX1_scale_61 : decode cX1_scale 61 = .ok (.iaload, 1) := dk_46 (dk_at dksX1_scale_2 15 rfl rfl)
theorem dX1_scale_62 : decode cX1_scale 62 = .ok (.i2l, 1) := dk_133 (dk_at dksX1_scale_2 16 rfl rfl)
theorem dX1_scale_63 : decode cX1_scale 63 = .ok (.lmul, 1) := dk_105 (dk_at dksX1_scale_2 17 rfl rfl)
theorem dX1_scale_64 : decode cX1_scale 64 = .ok (.invokevirtual 134, 3) := dk_182 0 134 (dk_at dksX1_scale_2 18 rfl rfl)
theorem dX1_scale_67 : decode cX1_scale 67 = .ok (.iastore, 1) := dk_79 (dk_at dksX1_scale_2 21 rfl rfl)
theorem dX1_scale_68 : decode cX1_scale 68 = .ok (.iinc 4 1, 3) := dk_132 4 1 (dk_at dksX1_scale_3 0 rfl rfl)
theorem dX1_scale_71 : decode cX1_scale 71 = .ok (.goto (-29), 3) := dk_167 255 227 (dk_at dksX1_scale_3 3 rfl rfl)
theorem dX1_scale_74 : decode cX1_scale 74 = .ok (.iconst 1, 1) := dk_4 (dk_at dksX1_scale_3 6 rfl rfl)
theorem dX1_scale_75 : decode cX1_scale 75 = .ok (.ireturn, 1) := dk_172 (dk_at dksX1_scale_3 7 rfl rfl)
def dkwX1_swap_4 : List UInt8 := [167, 255, 212, 4, 172]
abbrev dktX1_swap_4 : List UInt8 := dkwX1_swap_4 ++ []
def dkwX1_swap_3 : List UInt8 := [159, 0, 21, 25, 5, 21, 6, 25, 4, 21, 6, 4, 28, 120, 130, 4, 29, 120, 130, 46, 79, 132, 6, 1]
abbrev dktX1_swap_3 : List UInt8 := dkwX1_swap_3 ++ dktX1_swap_4
def dkwX1_swap_2 : List UInt8 := [54, 6, 21, 6, 25, 5, 190, 162, 0, 42, 21, 6, 28, 184, 0, 153, 21, 6, 29, 184, 0, 153]
abbrev dktX1_swap_2 : List UInt8 := dkwX1_swap_2 ++ dktX1_swap_3
def dkwX1_swap_1 : List UInt8 := [172, 42, 182, 1, 69, 42, 180, 0, 27, 180, 0, 211, 27, 50, 58, 4, 42, 27, 182, 1, 65, 58, 5, 3]
abbrev dktX1_swap_1 : List UInt8 := dkwX1_swap_1 ++ dktX1_swap_2
def dkwX1_swap_0 : List UInt8 := [42, 27, 28, 182, 1, 78, 153, 0, 17, 42, 27, 29, 182, 1, 78, 153, 0, 8, 28, 29, 160, 0, 5, 3]
abbrev dktX1_swap_0 : List UInt8 := dkwX1_swap_0 ++ dktX1_swap_1
theorem dksX1_swap_0 : cX1_swap.data.toList.drop 0 = dktX1_swap_0 := by decide +kernel
theorem dksX1_swap_1 : cX1_swap.data.toList.drop 24 = dktX1_swap_1 := dk_seg dksX1_swap_0 24 rfl rfl
theorem dksX1_swap_2 : cX1_swap.data.toList.drop 48 = dktX1_swap_2 := dk_seg dksX1_swap_1 24 rfl rfl
theorem dksX1_swap_3 : cX1_swap.data.toList.drop 70 = dktX1_swap_3 := dk_seg dksX1_swap_2 22 rfl rfl
theorem dksX1_swap_4 : cX1_swap.data.toList.drop 94 = dktX1_swap_4 := dk_seg dksX1_swap_3 24 rfl rfl
theorem dX1_swap_0 : decode cX1_swap 0 = .ok (.aload_n 0, 1) := dk_42 (dk_at dksX1_swap_0 0 rfl rfl)
theorem dX1_swap_1 : decode cX1_swap 1 = .ok (.iload_n 1, 1) := dk_27 (dk_at dksX1_swap_0 1 rfl rfl)
theorem dX1_swap_2 : decode cX1_swap 2 = .ok (.iload_n 2, 1) := dk_28 (dk_at dksX1_swap_0 2 rfl rfl)
theorem dX1_swap_3 : decode cX1_swap 3 = .ok (.invokevirtual 334, 3) := dk_182 1 78 (dk_at dksX1_swap_0 3 rfl rfl)
theorem dX1_swap_6 : decode cX1_swap 6 = .ok (.ifCond .eq 17, 3) := dk_153 0 17 (dk_at dksX1_swap_0 6 rfl rfl)
theorem dX1_swap_9 : decode cX1_swap 9 = .ok (.aload_n 0, 1) := dk_42 (dk_at dksX1_swap_0 9 rfl rfl)
theorem dX1_swap_10 : decode cX1_swap 10 = .ok (.iload_n 1, 1) := dk_27 (dk_at dksX1_swap_0 10 rfl rfl)
theorem dX1_swap_11 : decode cX1_swap 11 = .ok (.iload_n 3, 1) := dk_29 (dk_at dksX1_swap_0 11 rfl rfl)
theorem dX1_swap_12 : decode cX1_swap 12 = .ok (.invokevirtual 334, 3) := dk_182 1 78 (dk_at dksX1_swap_0 12 rfl rfl)
theorem dX1_swap_15 : decode cX1_swap 15 = .ok (.ifCond .eq 8, 3) := dk_153 0 8 (dk_at dksX1_swap_0 15 rfl rfl)
theorem dX1_swap_18 : decode cX1_swap 18 = .ok (.iload_n 2, 1) := dk_28 (dk_at dksX1_swap_0 18 rfl rfl)
theorem dX1_swap_19 : decode cX1_swap 19 = .ok (.iload_n 3, 1) := dk_29 (dk_at dksX1_swap_0 19 rfl rfl)
theorem dX1_swap_20 : decode cX1_swap 20 = .ok (.if_icmp .ne 5, 3) := dk_160 0 5 (dk_at dksX1_swap_0 20 rfl rfl)
theorem dX1_swap_23 : decode cX1_swap 23 = .ok (.iconst 0, 1) := dk_3 (dk_at dksX1_swap_0 23 rfl rfl)
theorem dX1_swap_24 : decode cX1_swap 24 = .ok (.ireturn, 1) := dk_172 (dk_at dksX1_swap_1 0 rfl rfl)
theorem dX1_swap_25 : decode cX1_swap 25 = .ok (.aload_n 0, 1) := dk_42 (dk_at dksX1_swap_1 1 rfl rfl)
theorem dX1_swap_26 : decode cX1_swap 26 = .ok (.invokevirtual 325, 3) := dk_182 1 69 (dk_at dksX1_swap_1 2 rfl rfl)
theorem dX1_swap_29 : decode cX1_swap 29 = .ok (.aload_n 0, 1) := dk_42 (dk_at dksX1_swap_1 5 rfl rfl)
theorem dX1_swap_30 : decode cX1_swap 30 = .ok (.getfield 27, 3) := dk_180 0 27 (dk_at dksX1_swap_1 6 rfl rfl)
theorem dX1_swap_33 : decode cX1_swap 33 = .ok (.getfield 211, 3) := dk_180 0 211 (dk_at dksX1_swap_1 9 rfl rfl)
theorem dX1_swap_36 : decode cX1_swap 36 = .ok (.iload_n 1, 1) := dk_27 (dk_at dksX1_swap_1 12 rfl rfl)
theorem dX1_swap_37 : decode cX1_swap 37 = .ok (.aaload, 1) := dk_50 (dk_at dksX1_swap_1 13 rfl rfl)
theorem dX1_swap_38 : decode cX1_swap 38 = .ok (.astore 4, 2) := dk_58 4 (dk_at dksX1_swap_1 14 rfl rfl)
theorem dX1_swap_40 : decode cX1_swap 40 = .ok (.aload_n 0, 1) := dk_42 (dk_at dksX1_swap_1 16 rfl rfl)
theorem dX1_swap_41 : decode cX1_swap 41 = .ok (.iload_n 1, 1) := dk_27 (dk_at dksX1_swap_1 17 rfl rfl)
theorem dX1_swap_42 : decode cX1_swap 42 = .ok (.invokevirtual 321, 3) := dk_182 1 65 (dk_at dksX1_swap_1 18 rfl rfl)
theorem dX1_swap_45 : decode cX1_swap 45 = .ok (.astore 5, 2) := dk_58 5 (dk_at dksX1_swap_1 21 rfl rfl)
theorem dX1_swap_47 : decode cX1_swap 47 = .ok (.iconst 0, 1) := dk_3 (dk_at dksX1_swap_1 23 rfl rfl)
theorem dX1_swap_48 : decode cX1_swap 48 = .ok (.istore 6, 2) := dk_54 6 (dk_at dksX1_swap_2 0 rfl rfl)
theorem dX1_swap_50 : decode cX1_swap 50 = .ok (.iload 6, 2) := dk_21 6 (dk_at dksX1_swap_2 2 rfl rfl)
theorem dX1_swap_52 : decode cX1_swap 52 = .ok (.aload 5, 2) := dk_25 5 (dk_at dksX1_swap_2 4 rfl rfl)
theorem dX1_swap_54 : decode cX1_swap 54 = .ok (.arraylength, 1) := dk_190 (dk_at dksX1_swap_2 6 rfl rfl)
theorem dX1_swap_55 : decode cX1_swap 55 = .ok (.if_icmp .ge 42, 3) := dk_162 0 42 (dk_at dksX1_swap_2 7 rfl rfl)
theorem dX1_swap_58 : decode cX1_swap 58 = .ok (.iload 6, 2) := dk_21 6 (dk_at dksX1_swap_2 10 rfl rfl)
theorem dX1_swap_60 : decode cX1_swap 60 = .ok (.iload_n 2, 1) := dk_28 (dk_at dksX1_swap_2 12 rfl rfl)
theorem dX1_swap_61 : decode cX1_swap 61 = .ok (.invokestatic 153, 3) := dk_184 0 153 (dk_at dksX1_swap_2 13 rfl rfl)
theorem dX1_swap_64 : decode cX1_swap 64 = .ok (.iload 6, 2) := dk_21 6 (dk_at dksX1_swap_2 16 rfl rfl)
theorem dX1_swap_66 : decode cX1_swap 66 = .ok (.iload_n 3, 1) := dk_29 (dk_at dksX1_swap_2 18 rfl rfl)
theorem dX1_swap_67 : decode cX1_swap 67 = .ok (.invokestatic 153, 3) := dk_184 0 153 (dk_at dksX1_swap_2 19 rfl rfl)
theorem dX1_swap_70 : decode cX1_swap 70 = .ok (.if_icmp .eq 21, 3) := dk_159 0 21 (dk_at dksX1_swap_3 0 rfl rfl)
theorem dX1_swap_73 : decode cX1_swap 73 = .ok (.aload 5, 2) := dk_25 5 (dk_at dksX1_swap_3 3 rfl rfl)
theorem dX1_swap_75 : decode cX1_swap 75 = .ok (.iload 6, 2) := dk_21 6 (dk_at dksX1_swap_3 5 rfl rfl)
theorem dX1_swap_77 : decode cX1_swap 77 = .ok (.aload 4, 2) := dk_25 4 (dk_at dksX1_swap_3 7 rfl rfl)
theorem dX1_swap_79 : decode cX1_swap 79 = .ok (.iload 6, 2) := dk_21 6 (dk_at dksX1_swap_3 9 rfl rfl)
theorem dX1_swap_81 : decode cX1_swap 81 = .ok (.iconst 1, 1) := dk_4 (dk_at dksX1_swap_3 11 rfl rfl)
theorem dX1_swap_82 : decode cX1_swap 82 = .ok (.iload_n 2, 1) := dk_28 (dk_at dksX1_swap_3 12 rfl rfl)
theorem dX1_swap_83 : decode cX1_swap 83 = .ok (.ishl, 1) := dk_120 (dk_at dksX1_swap_3 13 rfl rfl)
theorem dX1_swap_84 : decode cX1_swap 84 = .ok (.ixor, 1) := dk_130 (dk_at dksX1_swap_3 14 rfl rfl)
theorem dX1_swap_85 : decode cX1_swap 85 = .ok (.iconst 1, 1) := dk_4 (dk_at dksX1_swap_3 15 rfl rfl)
theorem dX1_swap_86 : decode cX1_swap 86 = .ok (.iload_n 3, 1) := dk_29 (dk_at dksX1_swap_3 16 rfl rfl)
theorem dX1_swap_87 : decode cX1_swap 87 = .ok (.ishl, 1) := dk_120 (dk_at dksX1_swap_3 17 rfl rfl)
theorem dX1_swap_88 : decode cX1_swap 88 = .ok (.ixor, 1) := dk_130 (dk_at dksX1_swap_3 18 rfl rfl)
theorem dX1_swap_89 : decode cX1_swap 89 = .ok (.iaload, 1) := dk_46 (dk_at dksX1_swap_3 19 rfl rfl)
theorem dX1_swap_90 : decode cX1_swap 90 = .ok (.iastore, 1) := dk_79 (dk_at dksX1_swap_3 20 rfl rfl)
theorem dX1_swap_91 : decode cX1_swap 91 = .ok (.iinc 6 1, 3) := dk_132 6 1 (dk_at dksX1_swap_3 21 rfl rfl)
theorem dX1_swap_94 : decode cX1_swap 94 = .ok (.goto (-44), 3) := dk_167 255 212 (dk_at dksX1_swap_4 0 rfl rfl)
theorem dX1_swap_97 : decode cX1_swap 97 = .ok (.iconst 1, 1) := dk_4 (dk_at dksX1_swap_4 3 rfl rfl)
theorem dX1_swap_98 : decode cX1_swap 98 = .ok (.ireturn, 1) := dk_172 (dk_at dksX1_swap_4 4 rfl rfl)
def dkwX1_isLeg_1 : List UInt8 := [153, 0, 7, 4, 167, 0, 4, 3, 172]
abbrev dktX1_isLeg_1 : List UInt8 := dkwX1_isLeg_1 ++ []
def dkwX1_isLeg_0 : List UInt8 := [42, 27, 182, 0, 205, 153, 0, 24, 28, 133, 9, 42, 27, 182, 0, 208, 4, 100, 133, 184, 0, 61]
abbrev dktX1_isLeg_0 : List UInt8 := dkwX1_isLeg_0 ++ dktX1_isLeg_1
theorem dksX1_isLeg_0 : cX1_isLeg.data.toList.drop 0 = dktX1_isLeg_0 := by decide +kernel
theorem dksX1_isLeg_1 : cX1_isLeg.data.toList.drop 22 = dktX1_isLeg_1 := dk_seg dksX1_isLeg_0 22 rfl rfl
theorem dX1_isLeg_0 : decode cX1_isLeg 0 = .ok (.aload_n 0, 1) := dk_42 (dk_at dksX1_isLeg_0 0 rfl rfl)
theorem dX1_isLeg_1 : decode cX1_isLeg 1 = .ok (.iload_n 1, 1) := dk_27 (dk_at dksX1_isLeg_0 1 rfl rfl)
theorem dX1_isLeg_2 : decode cX1_isLeg 2 = .ok (.invokevirtual 205, 3) := dk_182 0 205 (dk_at dksX1_isLeg_0 2 rfl rfl)
theorem dX1_isLeg_5 : decode cX1_isLeg 5 = .ok (.ifCond .eq 24, 3) := dk_153 0 24 (dk_at dksX1_isLeg_0 5 rfl rfl)
theorem dX1_isLeg_8 : decode cX1_isLeg 8 = .ok (.iload_n 2, 1) := dk_28 (dk_at dksX1_isLeg_0 8 rfl rfl)
theorem dX1_isLeg_9 : decode cX1_isLeg 9 = .ok (.i2l, 1) := dk_133 (dk_at dksX1_isLeg_0 9 rfl rfl)
theorem dX1_isLeg_10 : decode cX1_isLeg 10 = .ok (.lconst 0, 1) := dk_9 (dk_at dksX1_isLeg_0 10 rfl rfl)
theorem dX1_isLeg_11 : decode cX1_isLeg 11 = .ok (.aload_n 0, 1) := dk_42 (dk_at dksX1_isLeg_0 11 rfl rfl)
theorem dX1_isLeg_12 : decode cX1_isLeg 12 = .ok (.iload_n 1, 1) := dk_27 (dk_at dksX1_isLeg_0 12 rfl rfl)
theorem dX1_isLeg_13 : decode cX1_isLeg 13 = .ok (.invokevirtual 208, 3) := dk_182 0 208 (dk_at dksX1_isLeg_0 13 rfl rfl)
theorem dX1_isLeg_16 : decode cX1_isLeg 16 = .ok (.iconst 1, 1) := dk_4 (dk_at dksX1_isLeg_0 16 rfl rfl)
theorem dX1_isLeg_17 : decode cX1_isLeg 17 = .ok (.isub, 1) := dk_100 (dk_at dksX1_isLeg_0 17 rfl rfl)
theorem dX1_isLeg_18 : decode cX1_isLeg 18 = .ok (.i2l, 1) := dk_133 (dk_at dksX1_isLeg_0 18 rfl rfl)
theorem dX1_isLeg_19 : decode cX1_isLeg 19 = .ok (.invokestatic 61, 3) := dk_184 0 61 (dk_at dksX1_isLeg_0 19 rfl rfl)
theorem dX1_isLeg_22 : decode cX1_isLeg 22 = .ok (.ifCond .eq 7, 3) := dk_153 0 7 (dk_at dksX1_isLeg_1 0 rfl rfl)
theorem dX1_isLeg_25 : decode cX1_isLeg 25 = .ok (.iconst 1, 1) := dk_4 (dk_at dksX1_isLeg_1 3 rfl rfl)
theorem dX1_isLeg_26 : decode cX1_isLeg 26 = .ok (.goto 4, 3) := dk_167 0 4 (dk_at dksX1_isLeg_1 4 rfl rfl)
theorem dX1_isLeg_29 : decode cX1_isLeg 29 = .ok (.iconst 0, 1) := dk_3 (dk_at dksX1_isLeg_1 7 rfl rfl)
theorem dX1_isLeg_30 : decode cX1_isLeg 30 = .ok (.ireturn, 1) := dk_172 (dk_at dksX1_isLeg_1 8 rfl rfl)
def dkwX1_join_3 : List UInt8 := [180, 0, 27, 180, 0, 104, 182, 0, 46, 4, 100, 172]
abbrev dktX1_join_3 : List UInt8 := dkwX1_join_3 ++ []
def dkwX1_join_2 : List UInt8 := [182, 1, 69, 42, 180, 0, 27, 187, 0, 219, 89, 27, 28, 29, 21, 4, 183, 1, 84, 182, 1, 87, 42]
abbrev dktX1_join_2 : List UInt8 := dkwX1_join_2 ++ dktX1_join_3
def dkwX1_join_1 : List UInt8 := [28, 21, 4, 159, 0, 18, 42, 180, 0, 27, 180, 0, 104, 182, 0, 46, 16, 10, 160, 0, 5, 2, 172, 42]
abbrev dktX1_join_1 : List UInt8 := dkwX1_join_1 ++ dktX1_join_2
def dkwX1_join_0 : List UInt8 := [42, 27, 28, 182, 1, 81, 153, 0, 39, 42, 29, 21, 4, 182, 1, 81, 153, 0, 29, 27, 29, 160, 0, 9]
abbrev dktX1_join_0 : List UInt8 := dkwX1_join_0 ++ dktX1_join_1
theorem dksX1_join_0 : cX1_join.data.toList.drop 0 = dktX1_join_0 := by decide +kernel
theorem dksX1_join_1 : cX1_join.data.toList.drop 24 = dktX1_join_1 := dk_seg dksX1_join_0 24 rfl rfl
theorem dksX1_join_2 : cX1_join.data.toList.drop 48 = dktX1_join_2 := dk_seg dksX1_join_1 24 rfl rfl
theorem dksX1_join_3 : cX1_join.data.toList.drop 71 = dktX1_join_3 := dk_seg dksX1_join_2 23 rfl rfl
theorem dX1_join_0 : decode cX1_join 0 = .ok (.aload_n 0, 1) := dk_42 (dk_at dksX1_join_0 0 rfl rfl)
theorem dX1_join_1 : decode cX1_join 1 = .ok (.iload_n 1, 1) := dk_27 (dk_at dksX1_join_0 1 rfl rfl)
theorem dX1_join_2 : decode cX1_join 2 = .ok (.iload_n 2, 1) := dk_28 (dk_at dksX1_join_0 2 rfl rfl)
theorem dX1_join_3 : decode cX1_join 3 = .ok (.invokevirtual 337, 3) := dk_182 1 81 (dk_at dksX1_join_0 3 rfl rfl)
theorem dX1_join_6 : decode cX1_join 6 = .ok (.ifCond .eq 39, 3) := dk_153 0 39 (dk_at dksX1_join_0 6 rfl rfl)
theorem dX1_join_9 : decode cX1_join 9 = .ok (.aload_n 0, 1) := dk_42 (dk_at dksX1_join_0 9 rfl rfl)
theorem dX1_join_10 : decode cX1_join 10 = .ok (.iload_n 3, 1) := dk_29 (dk_at dksX1_join_0 10 rfl rfl)
theorem dX1_join_11 : decode cX1_join 11 = .ok (.iload 4, 2) := dk_21 4 (dk_at dksX1_join_0 11 rfl rfl)
theorem dX1_join_13 : decode cX1_join 13 = .ok (.invokevirtual 337, 3) := dk_182 1 81 (dk_at dksX1_join_0 13 rfl rfl)
theorem dX1_join_16 : decode cX1_join 16 = .ok (.ifCond .eq 29, 3) := dk_153 0 29 (dk_at dksX1_join_0 16 rfl rfl)
theorem dX1_join_19 : decode cX1_join 19 = .ok (.iload_n 1, 1) := dk_27 (dk_at dksX1_join_0 19 rfl rfl)
theorem dX1_join_20 : decode cX1_join 20 = .ok (.iload_n 3, 1) := dk_29 (dk_at dksX1_join_0 20 rfl rfl)
theorem dX1_join_21 : decode cX1_join 21 = .ok (.if_icmp .ne 9, 3) := dk_160 0 9 (dk_at dksX1_join_0 21 rfl rfl)
theorem dX1_join_24 : decode cX1_join 24 = .ok (.iload_n 2, 1) := dk_28 (dk_at dksX1_join_1 0 rfl rfl)
theorem dX1_join_25 : decode cX1_join 25 = .ok (.iload 4, 2) := dk_21 4 (dk_at dksX1_join_1 1 rfl rfl)
theorem dX1_join_27 : decode cX1_join 27 = .ok (.if_icmp .eq 18, 3) := dk_159 0 18 (dk_at dksX1_join_1 3 rfl rfl)
theorem dX1_join_30 : decode cX1_join 30 = .ok (.aload_n 0, 1) := dk_42 (dk_at dksX1_join_1 6 rfl rfl)
theorem dX1_join_31 : decode cX1_join 31 = .ok (.getfield 27, 3) := dk_180 0 27 (dk_at dksX1_join_1 7 rfl rfl)
theorem dX1_join_34 : decode cX1_join 34 = .ok (.getfield 104, 3) := dk_180 0 104 (dk_at dksX1_join_1 10 rfl rfl)
theorem dX1_join_37 : decode cX1_join 37 = .ok (.invokevirtual 46, 3) := dk_182 0 46 (dk_at dksX1_join_1 13 rfl rfl)
theorem dX1_join_40 : decode cX1_join 40 = .ok (.bipush 10, 2) := dk_16 10 (dk_at dksX1_join_1 16 rfl rfl)
theorem dX1_join_42 : decode cX1_join 42 = .ok (.if_icmp .ne 5, 3) := dk_160 0 5 (dk_at dksX1_join_1 18 rfl rfl)
theorem dX1_join_45 : decode cX1_join 45 = .ok (.iconst (-1), 1) := dk_2 (dk_at dksX1_join_1 21 rfl rfl)
theorem dX1_join_46 : decode cX1_join 46 = .ok (.ireturn, 1) := dk_172 (dk_at dksX1_join_1 22 rfl rfl)
theorem dX1_join_47 : decode cX1_join 47 = .ok (.aload_n 0, 1) := dk_42 (dk_at dksX1_join_1 23 rfl rfl)
theorem dX1_join_48 : decode cX1_join 48 = .ok (.invokevirtual 325, 3) := dk_182 1 69 (dk_at dksX1_join_2 0 rfl rfl)
theorem dX1_join_51 : decode cX1_join 51 = .ok (.aload_n 0, 1) := dk_42 (dk_at dksX1_join_2 3 rfl rfl)
theorem dX1_join_52 : decode cX1_join 52 = .ok (.getfield 27, 3) := dk_180 0 27 (dk_at dksX1_join_2 4 rfl rfl)
theorem dX1_join_55 : decode cX1_join 55 = .ok (.new 219, 3) := dk_187 0 219 (dk_at dksX1_join_2 7 rfl rfl)
theorem dX1_join_58 : decode cX1_join 58 = .ok (.dup, 1) := dk_89 (dk_at dksX1_join_2 10 rfl rfl)
theorem dX1_join_59 : decode cX1_join 59 = .ok (.iload_n 1, 1) := dk_27 (dk_at dksX1_join_2 11 rfl rfl)
theorem dX1_join_60 : decode cX1_join 60 = .ok (.iload_n 2, 1) := dk_28 (dk_at dksX1_join_2 12 rfl rfl)
theorem dX1_join_61 : decode cX1_join 61 = .ok (.iload_n 3, 1) := dk_29 (dk_at dksX1_join_2 13 rfl rfl)
theorem dX1_join_62 : decode cX1_join 62 = .ok (.iload 4, 2) := dk_21 4 (dk_at dksX1_join_2 14 rfl rfl)
theorem dX1_join_64 : decode cX1_join 64 = .ok (.invokespecial 340, 3) := dk_183 1 84 (dk_at dksX1_join_2 16 rfl rfl)
theorem dX1_join_67 : decode cX1_join 67 = .ok (.invokevirtual 343, 3) := dk_182 1 87 (dk_at dksX1_join_2 19 rfl rfl)
theorem dX1_join_70 : decode cX1_join 70 = .ok (.aload_n 0, 1) := dk_42 (dk_at dksX1_join_2 22 rfl rfl)
theorem dX1_join_71 : decode cX1_join 71 = .ok (.getfield 27, 3) := dk_180 0 27 (dk_at dksX1_join_3 0 rfl rfl)
theorem dX1_join_74 : decode cX1_join 74 = .ok (.getfield 104, 3) := dk_180 0 104 (dk_at dksX1_join_3 3 rfl rfl)
theorem dX1_join_77 : decode cX1_join 77 = .ok (.invokevirtual 46, 3) := dk_182 0 46 (dk_at dksX1_join_3 6 rfl rfl)
theorem dX1_join_80 : decode cX1_join 80 = .ok (.iconst 1, 1) := dk_4 (dk_at dksX1_join_3 9 rfl rfl)
theorem dX1_join_81 : decode cX1_join 81 = .ok (.isub, 1) := dk_100 (dk_at dksX1_join_3 10 rfl rfl)
theorem dX1_join_82 : decode cX1_join 82 = .ok (.ireturn, 1) := dk_172 (dk_at dksX1_join_3 11 rfl rfl)
def dkwX1_isOpen_1 : List UInt8 := [167, 0, 4, 3, 172]
abbrev dktX1_isOpen_1 : List UInt8 := dkwX1_isOpen_1 ++ []
def dkwX1_isOpen_0 : List UInt8 := [42, 27, 28, 182, 1, 78, 153, 0, 19, 42, 27, 182, 0, 236, 28, 184, 0, 153, 153, 0, 7, 4]
abbrev dktX1_isOpen_0 : List UInt8 := dkwX1_isOpen_0 ++ dktX1_isOpen_1
theorem dksX1_isOpen_0 : cX1_isOpen.data.toList.drop 0 = dktX1_isOpen_0 := by decide +kernel
theorem dksX1_isOpen_1 : cX1_isOpen.data.toList.drop 22 = dktX1_isOpen_1 := dk_seg dksX1_isOpen_0 22 rfl rfl
theorem dX1_isOpen_0 : decode cX1_isOpen 0 = .ok (.aload_n 0, 1) := dk_42 (dk_at dksX1_isOpen_0 0 rfl rfl)
theorem dX1_isOpen_1 : decode cX1_isOpen 1 = .ok (.iload_n 1, 1) := dk_27 (dk_at dksX1_isOpen_0 1 rfl rfl)
theorem dX1_isOpen_2 : decode cX1_isOpen 2 = .ok (.iload_n 2, 1) := dk_28 (dk_at dksX1_isOpen_0 2 rfl rfl)
theorem dX1_isOpen_3 : decode cX1_isOpen 3 = .ok (.invokevirtual 334, 3) := dk_182 1 78 (dk_at dksX1_isOpen_0 3 rfl rfl)
theorem dX1_isOpen_6 : decode cX1_isOpen 6 = .ok (.ifCond .eq 19, 3) := dk_153 0 19 (dk_at dksX1_isOpen_0 6 rfl rfl)
theorem dX1_isOpen_9 : decode cX1_isOpen 9 = .ok (.aload_n 0, 1) := dk_42 (dk_at dksX1_isOpen_0 9 rfl rfl)
theorem dX1_isOpen_10 : decode cX1_isOpen 10 = .ok (.iload_n 1, 1) := dk_27 (dk_at dksX1_isOpen_0 10 rfl rfl)
theorem dX1_isOpen_11 : decode cX1_isOpen 11 = .ok (.invokevirtual 236, 3) := dk_182 0 236 (dk_at dksX1_isOpen_0 11 rfl rfl)
theorem dX1_isOpen_14 : decode cX1_isOpen 14 = .ok (.iload_n 2, 1) := dk_28 (dk_at dksX1_isOpen_0 14 rfl rfl)
theorem dX1_isOpen_15 : decode cX1_isOpen 15 = .ok (.invokestatic 153, 3) := dk_184 0 153 (dk_at dksX1_isOpen_0 15 rfl rfl)
theorem dX1_isOpen_18 : decode cX1_isOpen 18 = .ok (.ifCond .eq 7, 3) := dk_153 0 7 (dk_at dksX1_isOpen_0 18 rfl rfl)
theorem dX1_isOpen_21 : decode cX1_isOpen 21 = .ok (.iconst 1, 1) := dk_4 (dk_at dksX1_isOpen_0 21 rfl rfl)
theorem dX1_isOpen_22 : decode cX1_isOpen 22 = .ok (.goto 4, 3) := dk_167 0 4 (dk_at dksX1_isOpen_1 0 rfl rfl)
theorem dX1_isOpen_25 : decode cX1_isOpen 25 = .ok (.iconst 0, 1) := dk_3 (dk_at dksX1_isOpen_1 3 rfl rfl)
theorem dX1_isOpen_26 : decode cX1_isOpen 26 = .ok (.ireturn, 1) := dk_172 (dk_at dksX1_isOpen_1 4 rfl rfl)
def dkwX1_cut_1 : List UInt8 := [180, 0, 27, 180, 0, 104, 182, 0, 46, 172]
abbrev dktX1_cut_1 : List UInt8 := dkwX1_cut_1 ++ []
def dkwX1_cut_0 : List UInt8 := [42, 27, 182, 0, 214, 154, 0, 5, 2, 172, 42, 182, 1, 69, 42, 180, 0, 27, 27, 182, 1, 91, 42]
abbrev dktX1_cut_0 : List UInt8 := dkwX1_cut_0 ++ dktX1_cut_1
theorem dksX1_cut_0 : cX1_cut.data.toList.drop 0 = dktX1_cut_0 := by decide +kernel
theorem dksX1_cut_1 : cX1_cut.data.toList.drop 23 = dktX1_cut_1 := dk_seg dksX1_cut_0 23 rfl rfl
theorem dX1_cut_0 : decode cX1_cut 0 = .ok (.aload_n 0, 1) := dk_42 (dk_at dksX1_cut_0 0 rfl rfl)
theorem dX1_cut_1 : decode cX1_cut 1 = .ok (.iload_n 1, 1) := dk_27 (dk_at dksX1_cut_0 1 rfl rfl)
theorem dX1_cut_2 : decode cX1_cut 2 = .ok (.invokevirtual 214, 3) := dk_182 0 214 (dk_at dksX1_cut_0 2 rfl rfl)
theorem dX1_cut_5 : decode cX1_cut 5 = .ok (.ifCond .ne 5, 3) := dk_154 0 5 (dk_at dksX1_cut_0 5 rfl rfl)
theorem dX1_cut_8 : decode cX1_cut 8 = .ok (.iconst (-1), 1) := dk_2 (dk_at dksX1_cut_0 8 rfl rfl)
theorem dX1_cut_9 : decode cX1_cut 9 = .ok (.ireturn, 1) := dk_172 (dk_at dksX1_cut_0 9 rfl rfl)
theorem dX1_cut_10 : decode cX1_cut 10 = .ok (.aload_n 0, 1) := dk_42 (dk_at dksX1_cut_0 10 rfl rfl)
theorem dX1_cut_11 : decode cX1_cut 11 = .ok (.invokevirtual 325, 3) := dk_182 1 69 (dk_at dksX1_cut_0 11 rfl rfl)
theorem dX1_cut_14 : decode cX1_cut 14 = .ok (.aload_n 0, 1) := dk_42 (dk_at dksX1_cut_0 14 rfl rfl)
theorem dX1_cut_15 : decode cX1_cut 15 = .ok (.getfield 27, 3) := dk_180 0 27 (dk_at dksX1_cut_0 15 rfl rfl)
theorem dX1_cut_18 : decode cX1_cut 18 = .ok (.iload_n 1, 1) := dk_27 (dk_at dksX1_cut_0 18 rfl rfl)
theorem dX1_cut_19 : decode cX1_cut 19 = .ok (.invokevirtual 347, 3) := dk_182 1 91 (dk_at dksX1_cut_0 19 rfl rfl)
theorem dX1_cut_22 : decode cX1_cut 22 = .ok (.aload_n 0, 1) := dk_42 (dk_at dksX1_cut_0 22 rfl rfl)
theorem dX1_cut_23 : decode cX1_cut 23 = .ok (.getfield 27, 3) := dk_180 0 27 (dk_at dksX1_cut_1 0 rfl rfl)
theorem dX1_cut_26 : decode cX1_cut 26 = .ok (.getfield 104, 3) := dk_180 0 104 (dk_at dksX1_cut_1 3 rfl rfl)
theorem dX1_cut_29 : decode cX1_cut 29 = .ok (.invokevirtual 46, 3) := dk_182 0 46 (dk_at dksX1_cut_1 6 rfl rfl)
theorem dX1_cut_32 : decode cX1_cut 32 = .ok (.ireturn, 1) := dk_172 (dk_at dksX1_cut_1 9 rfl rfl)
def dkwX1_undo_1 : List UInt8 := [4, 100, 182, 0, 50, 192, 0, 24, 181, 0, 27, 42, 180, 0, 34, 182, 0, 46, 172]
abbrev dktX1_undo_1 : List UInt8 := dkwX1_undo_1 ++ []
def dkwX1_undo_0 : List UInt8 := [42, 180, 0, 34, 182, 1, 95, 153, 0, 5, 2, 172, 42, 42, 180, 0, 34, 42, 180, 0, 34, 182, 0, 46]
abbrev dktX1_undo_0 : List UInt8 := dkwX1_undo_0 ++ dktX1_undo_1
theorem dksX1_undo_0 : cX1_undo.data.toList.drop 0 = dktX1_undo_0 := by decide +kernel
theorem dksX1_undo_1 : cX1_undo.data.toList.drop 24 = dktX1_undo_1 := dk_seg dksX1_undo_0 24 rfl rfl
theorem dX1_undo_0 : decode cX1_undo 0 = .ok (.aload_n 0, 1) := dk_42 (dk_at dksX1_undo_0 0 rfl rfl)
theorem dX1_undo_1 : decode cX1_undo 1 = .ok (.getfield 34, 3) := dk_180 0 34 (dk_at dksX1_undo_0 1 rfl rfl)
theorem dX1_undo_4 : decode cX1_undo 4 = .ok (.invokevirtual 351, 3) := dk_182 1 95 (dk_at dksX1_undo_0 4 rfl rfl)
theorem dX1_undo_7 : decode cX1_undo 7 = .ok (.ifCond .eq 5, 3) := dk_153 0 5 (dk_at dksX1_undo_0 7 rfl rfl)
theorem dX1_undo_10 : decode cX1_undo 10 = .ok (.iconst (-1), 1) := dk_2 (dk_at dksX1_undo_0 10 rfl rfl)
theorem dX1_undo_11 : decode cX1_undo 11 = .ok (.ireturn, 1) := dk_172 (dk_at dksX1_undo_0 11 rfl rfl)
theorem dX1_undo_12 : decode cX1_undo 12 = .ok (.aload_n 0, 1) := dk_42 (dk_at dksX1_undo_0 12 rfl rfl)
theorem dX1_undo_13 : decode cX1_undo 13 = .ok (.aload_n 0, 1) := dk_42 (dk_at dksX1_undo_0 13 rfl rfl)
theorem dX1_undo_14 : decode cX1_undo 14 = .ok (.getfield 34, 3) := dk_180 0 34 (dk_at dksX1_undo_0 14 rfl rfl)
theorem dX1_undo_17 : decode cX1_undo 17 = .ok (.aload_n 0, 1) := dk_42 (dk_at dksX1_undo_0 17 rfl rfl)
theorem dX1_undo_18 : decode cX1_undo 18 = .ok (.getfield 34, 3) := dk_180 0 34 (dk_at dksX1_undo_0 18 rfl rfl)
theorem dX1_undo_21 : decode cX1_undo 21 = .ok (.invokevirtual 46, 3) := dk_182 0 46 (dk_at dksX1_undo_0 21 rfl rfl)
theorem dX1_undo_24 : decode cX1_undo 24 = .ok (.iconst 1, 1) := dk_4 (dk_at dksX1_undo_1 0 rfl rfl)
theorem dX1_undo_25 : decode cX1_undo 25 = .ok (.isub, 1) := dk_100 (dk_at dksX1_undo_1 1 rfl rfl)
theorem dX1_undo_26 : decode cX1_undo 26 = .ok (.invokevirtual 50, 3) := dk_182 0 50 (dk_at dksX1_undo_1 2 rfl rfl)
theorem dX1_undo_29 : decode cX1_undo 29 = .ok (.checkcast 24, 3) := dk_192 0 24 (dk_at dksX1_undo_1 5 rfl rfl)
theorem dX1_undo_32 : decode cX1_undo 32 = .ok (.putfield 27, 3) := dk_181 0 27 (dk_at dksX1_undo_1 8 rfl rfl)
theorem dX1_undo_35 : decode cX1_undo 35 = .ok (.aload_n 0, 1) := dk_42 (dk_at dksX1_undo_1 11 rfl rfl)
theorem dX1_undo_36 : decode cX1_undo 36 = .ok (.getfield 34, 3) := dk_180 0 34 (dk_at dksX1_undo_1 12 rfl rfl)
theorem dX1_undo_39 : decode cX1_undo 39 = .ok (.invokevirtual 46, 3) := dk_182 0 46 (dk_at dksX1_undo_1 15 rfl rfl)
theorem dX1_undo_42 : decode cX1_undo 42 = .ok (.ireturn, 1) := dk_172 (dk_at dksX1_undo_1 18 rfl rfl)
def dkwX1_keep_3 : List UInt8 := [183, 0, 54, 83, 4, 172]
abbrev dktX1_keep_3 : List UInt8 := dkwX1_keep_3 ++ []
def dkwX1_keep_2 : List UInt8 := [180, 0, 34, 182, 0, 82, 167, 0, 20, 42, 180, 0, 38, 27, 187, 0, 24, 89, 42, 180, 0, 27]
abbrev dktX1_keep_2 : List UInt8 := dkwX1_keep_2 ++ dktX1_keep_3
def dkwX1_keep_1 : List UInt8 := [172, 28, 153, 0, 30, 42, 187, 0, 24, 89, 42, 180, 0, 38, 27, 50, 183, 0, 54, 181, 0, 27, 42]
abbrev dktX1_keep_1 : List UInt8 := dkwX1_keep_1 ++ dktX1_keep_2
def dkwX1_keep_0 : List UInt8 := [27, 133, 9, 10, 184, 0, 61, 153, 0, 16, 28, 153, 0, 14, 42, 180, 0, 38, 27, 50, 199, 0, 5, 3]
abbrev dktX1_keep_0 : List UInt8 := dkwX1_keep_0 ++ dktX1_keep_1
theorem dksX1_keep_0 : cX1_keep.data.toList.drop 0 = dktX1_keep_0 := by decide +kernel
theorem dksX1_keep_1 : cX1_keep.data.toList.drop 24 = dktX1_keep_1 := dk_seg dksX1_keep_0 24 rfl rfl
theorem dksX1_keep_2 : cX1_keep.data.toList.drop 47 = dktX1_keep_2 := dk_seg dksX1_keep_1 23 rfl rfl
theorem dksX1_keep_3 : cX1_keep.data.toList.drop 69 = dktX1_keep_3 := dk_seg dksX1_keep_2 22 rfl rfl
theorem dX1_keep_0 : decode cX1_keep 0 = .ok (.iload_n 1, 1) := dk_27 (dk_at dksX1_keep_0 0 rfl rfl)
theorem dX1_keep_1 : decode cX1_keep 1 = .ok (.i2l, 1) := dk_133 (dk_at dksX1_keep_0 1 rfl rfl)
theorem dX1_keep_2 : decode cX1_keep 2 = .ok (.lconst 0, 1) := dk_9 (dk_at dksX1_keep_0 2 rfl rfl)
theorem dX1_keep_3 : decode cX1_keep 3 = .ok (.lconst 1, 1) := dk_10 (dk_at dksX1_keep_0 3 rfl rfl)
theorem dX1_keep_4 : decode cX1_keep 4 = .ok (.invokestatic 61, 3) := dk_184 0 61 (dk_at dksX1_keep_0 4 rfl rfl)
theorem dX1_keep_7 : decode cX1_keep 7 = .ok (.ifCond .eq 16, 3) := dk_153 0 16 (dk_at dksX1_keep_0 7 rfl rfl)
theorem dX1_keep_10 : decode cX1_keep 10 = .ok (.iload_n 2, 1) := dk_28 (dk_at dksX1_keep_0 10 rfl rfl)
theorem dX1_keep_11 : decode cX1_keep 11 = .ok (.ifCond .eq 14, 3) := dk_153 0 14 (dk_at dksX1_keep_0 11 rfl rfl)
theorem dX1_keep_14 : decode cX1_keep 14 = .ok (.aload_n 0, 1) := dk_42 (dk_at dksX1_keep_0 14 rfl rfl)
theorem dX1_keep_15 : decode cX1_keep 15 = .ok (.getfield 38, 3) := dk_180 0 38 (dk_at dksX1_keep_0 15 rfl rfl)
theorem dX1_keep_18 : decode cX1_keep 18 = .ok (.iload_n 1, 1) := dk_27 (dk_at dksX1_keep_0 18 rfl rfl)
theorem dX1_keep_19 : decode cX1_keep 19 = .ok (.aaload, 1) := dk_50 (dk_at dksX1_keep_0 19 rfl rfl)
theorem dX1_keep_20 : decode cX1_keep 20 = .ok (.ifnonnull 5, 3) := dk_199 0 5 (dk_at dksX1_keep_0 20 rfl rfl)
theorem dX1_keep_23 : decode cX1_keep 23 = .ok (.iconst 0, 1) := dk_3 (dk_at dksX1_keep_0 23 rfl rfl)
theorem dX1_keep_24 : decode cX1_keep 24 = .ok (.ireturn, 1) := dk_172 (dk_at dksX1_keep_1 0 rfl rfl)
theorem dX1_keep_25 : decode cX1_keep 25 = .ok (.iload_n 2, 1) := dk_28 (dk_at dksX1_keep_1 1 rfl rfl)
theorem dX1_keep_26 : decode cX1_keep 26 = .ok (.ifCond .eq 30, 3) := dk_153 0 30 (dk_at dksX1_keep_1 2 rfl rfl)
theorem dX1_keep_29 : decode cX1_keep 29 = .ok (.aload_n 0, 1) := dk_42 (dk_at dksX1_keep_1 5 rfl rfl)
theorem dX1_keep_30 : decode cX1_keep 30 = .ok (.new 24, 3) := dk_187 0 24 (dk_at dksX1_keep_1 6 rfl rfl)
theorem dX1_keep_33 : decode cX1_keep 33 = .ok (.dup, 1) := dk_89 (dk_at dksX1_keep_1 9 rfl rfl)
theorem dX1_keep_34 : decode cX1_keep 34 = .ok (.aload_n 0, 1) := dk_42 (dk_at dksX1_keep_1 10 rfl rfl)
theorem dX1_keep_35 : decode cX1_keep 35 = .ok (.getfield 38, 3) := dk_180 0 38 (dk_at dksX1_keep_1 11 rfl rfl)
theorem dX1_keep_38 : decode cX1_keep 38 = .ok (.iload_n 1, 1) := dk_27 (dk_at dksX1_keep_1 14 rfl rfl)
theorem dX1_keep_39 : decode cX1_keep 39 = .ok (.aaload, 1) := dk_50 (dk_at dksX1_keep_1 15 rfl rfl)
theorem dX1_keep_40 : decode cX1_keep 40 = .ok (.invokespecial 54, 3) := dk_183 0 54 (dk_at dksX1_keep_1 16 rfl rfl)
theorem dX1_keep_43 : decode cX1_keep 43 = .ok (.putfield 27, 3) := dk_181 0 27 (dk_at dksX1_keep_1 19 rfl rfl)
theorem dX1_keep_46 : decode cX1_keep 46 = .ok (.aload_n 0, 1) := dk_42 (dk_at dksX1_keep_1 22 rfl rfl)
theorem dX1_keep_47 : decode cX1_keep 47 = .ok (.getfield 34, 3) := dk_180 0 34 (dk_at dksX1_keep_2 0 rfl rfl)
theorem dX1_keep_50 : decode cX1_keep 50 = .ok (.invokevirtual 82, 3) := dk_182 0 82 (dk_at dksX1_keep_2 3 rfl rfl)
theorem dX1_keep_53 : decode cX1_keep 53 = .ok (.goto 20, 3) := dk_167 0 20 (dk_at dksX1_keep_2 6 rfl rfl)
theorem dX1_keep_56 : decode cX1_keep 56 = .ok (.aload_n 0, 1) := dk_42 (dk_at dksX1_keep_2 9 rfl rfl)
theorem dX1_keep_57 : decode cX1_keep 57 = .ok (.getfield 38, 3) := dk_180 0 38 (dk_at dksX1_keep_2 10 rfl rfl)
theorem dX1_keep_60 : decode cX1_keep 60 = .ok (.iload_n 1, 1) := dk_27 (dk_at dksX1_keep_2 13 rfl rfl)
theorem dX1_keep_61 : decode cX1_keep 61 = .ok (.new 24, 3) := dk_187 0 24 (dk_at dksX1_keep_2 14 rfl rfl)
theorem dX1_keep_64 : decode cX1_keep 64 = .ok (.dup, 1) := dk_89 (dk_at dksX1_keep_2 17 rfl rfl)
theorem dX1_keep_65 : decode cX1_keep 65 = .ok (.aload_n 0, 1) := dk_42 (dk_at dksX1_keep_2 18 rfl rfl)
theorem dX1_keep_66 : decode cX1_keep 66 = .ok (.getfield 27, 3) := dk_180 0 27 (dk_at dksX1_keep_2 19 rfl rfl)
theorem dX1_keep_69 : decode cX1_keep 69 = .ok (.invokespecial 54, 3) := dk_183 0 54 (dk_at dksX1_keep_3 0 rfl rfl)
theorem dX1_keep_72 : decode cX1_keep 72 = .ok (.aastore, 1) := dk_83 (dk_at dksX1_keep_3 3 rfl rfl)
theorem dX1_keep_73 : decode cX1_keep 73 = .ok (.iconst 1, 1) := dk_4 (dk_at dksX1_keep_3 4 rfl rfl)
theorem dX1_keep_74 : decode cX1_keep 74 = .ok (.ireturn, 1) := dk_172 (dk_at dksX1_keep_3 5 rfl rfl)
def dkwX1_count_5 : List UInt8 := [172, 2, 172]
abbrev dktX1_count_5 : List UInt8 := dkwX1_count_5 ++ []
def dkwX1_count_4 : List UInt8 := [180, 0, 104, 182, 0, 46, 172, 42, 182, 0, 239, 172, 42, 180, 0, 34, 182, 0, 46, 172, 42, 180, 0, 1]
abbrev dktX1_count_4 : List UInt8 := dkwX1_count_4 ++ dktX1_count_5
def dkwX1_count_3 : List UInt8 := [180, 0, 98, 182, 0, 198, 172, 42, 180, 0, 20, 180, 0, 101, 182, 0, 198, 172, 42, 180, 0, 27]
abbrev dktX1_count_3 : List UInt8 := dkwX1_count_3 ++ dktX1_count_4
def dkwX1_count_2 : List UInt8 := [42, 180, 0, 20, 180, 0, 146, 172, 42, 180, 0, 20, 180, 0, 88, 182, 0, 198, 172, 42, 180, 0, 20]
abbrev dktX1_count_2 : List UInt8 := dkwX1_count_2 ++ dktX1_count_3
def dkwX1_count_1 : List UInt8 := [170, 0, 0, 0, 0, 0, 117, 0, 0, 0, 0, 0, 0, 0, 7, 0, 0, 0, 47, 0, 0, 0, 55, 0, 0, 0, 66, 0, 0, 0, 77, 0, 0, 0, 88, 0, 0, 0, 99, 0, 0, 0, 104, 0, 0, 0, 112]
abbrev dktX1_count_1 : List UInt8 := dkwX1_count_1 ++ dktX1_count_2
def dkwX1_count_0 : List UInt8 := [27]
abbrev dktX1_count_0 : List UInt8 := dkwX1_count_0 ++ dktX1_count_1
theorem dksX1_count_0 : cX1_count.data.toList.drop 0 = dktX1_count_0 := by decide +kernel
theorem dksX1_count_1 : cX1_count.data.toList.drop 1 = dktX1_count_1 := dk_seg dksX1_count_0 1 rfl rfl
theorem dksX1_count_2 : cX1_count.data.toList.drop 48 = dktX1_count_2 := dk_seg dksX1_count_1 47 rfl rfl
theorem dksX1_count_3 : cX1_count.data.toList.drop 71 = dktX1_count_3 := dk_seg dksX1_count_2 23 rfl rfl
theorem dksX1_count_4 : cX1_count.data.toList.drop 93 = dktX1_count_4 := dk_seg dksX1_count_3 22 rfl rfl
theorem dksX1_count_5 : cX1_count.data.toList.drop 117 = dktX1_count_5 := dk_seg dksX1_count_4 24 rfl rfl
theorem dX1_count_0 : decode cX1_count 0 = .ok (.iload_n 1, 1) := dk_27 (dk_at dksX1_count_0 0 rfl rfl)
theorem dX1_count_1 : decode cX1_count 1 = .ok (.tableswitch 117 0 7 #[47, 55, 66, 77, 88, 99, 104, 112], 47) := by decide +kernel
theorem dX1_count_48 : decode cX1_count 48 = .ok (.aload_n 0, 1) := dk_42 (dk_at dksX1_count_2 0 rfl rfl)
theorem dX1_count_49 : decode cX1_count 49 = .ok (.getfield 20, 3) := dk_180 0 20 (dk_at dksX1_count_2 1 rfl rfl)
theorem dX1_count_52 : decode cX1_count 52 = .ok (.getfield 146, 3) := dk_180 0 146 (dk_at dksX1_count_2 4 rfl rfl)
theorem dX1_count_55 : decode cX1_count 55 = .ok (.ireturn, 1) := dk_172 (dk_at dksX1_count_2 7 rfl rfl)
theorem dX1_count_56 : decode cX1_count 56 = .ok (.aload_n 0, 1) := dk_42 (dk_at dksX1_count_2 8 rfl rfl)
theorem dX1_count_57 : decode cX1_count 57 = .ok (.getfield 20, 3) := dk_180 0 20 (dk_at dksX1_count_2 9 rfl rfl)
theorem dX1_count_60 : decode cX1_count 60 = .ok (.getfield 88, 3) := dk_180 0 88 (dk_at dksX1_count_2 12 rfl rfl)
theorem dX1_count_63 : decode cX1_count 63 = .ok (.invokevirtual 198, 3) := dk_182 0 198 (dk_at dksX1_count_2 15 rfl rfl)
theorem dX1_count_66 : decode cX1_count 66 = .ok (.ireturn, 1) := dk_172 (dk_at dksX1_count_2 18 rfl rfl)
theorem dX1_count_67 : decode cX1_count 67 = .ok (.aload_n 0, 1) := dk_42 (dk_at dksX1_count_2 19 rfl rfl)
theorem dX1_count_68 : decode cX1_count 68 = .ok (.getfield 20, 3) := dk_180 0 20 (dk_at dksX1_count_2 20 rfl rfl)
theorem dX1_count_71 : decode cX1_count 71 = .ok (.getfield 98, 3) := dk_180 0 98 (dk_at dksX1_count_3 0 rfl rfl)
theorem dX1_count_74 : decode cX1_count 74 = .ok (.invokevirtual 198, 3) := dk_182 0 198 (dk_at dksX1_count_3 3 rfl rfl)
theorem dX1_count_77 : decode cX1_count 77 = .ok (.ireturn, 1) := dk_172 (dk_at dksX1_count_3 6 rfl rfl)
theorem dX1_count_78 : decode cX1_count 78 = .ok (.aload_n 0, 1) := dk_42 (dk_at dksX1_count_3 7 rfl rfl)
theorem dX1_count_79 : decode cX1_count 79 = .ok (.getfield 20, 3) := dk_180 0 20 (dk_at dksX1_count_3 8 rfl rfl)
theorem dX1_count_82 : decode cX1_count 82 = .ok (.getfield 101, 3) := dk_180 0 101 (dk_at dksX1_count_3 11 rfl rfl)
theorem dX1_count_85 : decode cX1_count 85 = .ok (.invokevirtual 198, 3) := dk_182 0 198 (dk_at dksX1_count_3 14 rfl rfl)
theorem dX1_count_88 : decode cX1_count 88 = .ok (.ireturn, 1) := dk_172 (dk_at dksX1_count_3 17 rfl rfl)
theorem dX1_count_89 : decode cX1_count 89 = .ok (.aload_n 0, 1) := dk_42 (dk_at dksX1_count_3 18 rfl rfl)
theorem dX1_count_90 : decode cX1_count 90 = .ok (.getfield 27, 3) := dk_180 0 27 (dk_at dksX1_count_3 19 rfl rfl)
theorem dX1_count_93 : decode cX1_count 93 = .ok (.getfield 104, 3) := dk_180 0 104 (dk_at dksX1_count_4 0 rfl rfl)
theorem dX1_count_96 : decode cX1_count 96 = .ok (.invokevirtual 46, 3) := dk_182 0 46 (dk_at dksX1_count_4 3 rfl rfl)
theorem dX1_count_99 : decode cX1_count 99 = .ok (.ireturn, 1) := dk_172 (dk_at dksX1_count_4 6 rfl rfl)
theorem dX1_count_100 : decode cX1_count 100 = .ok (.aload_n 0, 1) := dk_42 (dk_at dksX1_count_4 7 rfl rfl)
theorem dX1_count_101 : decode cX1_count 101 = .ok (.invokevirtual 239, 3) := dk_182 0 239 (dk_at dksX1_count_4 8 rfl rfl)
theorem dX1_count_104 : decode cX1_count 104 = .ok (.ireturn, 1) := dk_172 (dk_at dksX1_count_4 11 rfl rfl)
theorem dX1_count_105 : decode cX1_count 105 = .ok (.aload_n 0, 1) := dk_42 (dk_at dksX1_count_4 12 rfl rfl)
theorem dX1_count_106 : decode cX1_count 106 = .ok (.getfield 34, 3) := dk_180 0 34 (dk_at dksX1_count_4 13 rfl rfl)
theorem dX1_count_109 : decode cX1_count 109 = .ok (.invokevirtual 46, 3) := dk_182 0 46 (dk_at dksX1_count_4 16 rfl rfl)
theorem dX1_count_112 : decode cX1_count 112 = .ok (.ireturn, 1) := dk_172 (dk_at dksX1_count_4 19 rfl rfl)
theorem dX1_count_113 : decode cX1_count 113 = .ok (.aload_n 0, 1) := dk_42 (dk_at dksX1_count_4 20 rfl rfl)
theorem dX1_count_114 : decode cX1_count 114 = .ok (.getfield 1, 3) := dk_180 0 1 (dk_at dksX1_count_4 21 rfl rfl)
theorem dX1_count_117 : decode cX1_count 117 = .ok (.ireturn, 1) := dk_172 (dk_at dksX1_count_5 0 rfl rfl)
theorem dX1_count_118 : decode cX1_count 118 = .ok (.iconst (-1), 1) := dk_2 (dk_at dksX1_count_5 1 rfl rfl)
theorem dX1_count_119 : decode cX1_count 119 = .ok (.ireturn, 1) := dk_172 (dk_at dksX1_count_5 2 rfl rfl)
def dkwX1_base_3 : List UInt8 := [5, 46, 104, 100, 133, 182, 0, 134, 172]
abbrev dktX1_base_3 : List UInt8 := dkwX1_base_3 ++ []
def dkwX1_base_2 : List UInt8 := [162, 0, 9, 45, 28, 46, 167, 0, 26, 42, 180, 0, 20, 45, 3, 46, 45, 6, 46, 104, 45, 4, 46, 45]
abbrev dktX1_base_2 : List UInt8 := dkwX1_base_2 ++ dktX1_base_3
def dkwX1_base_1 : List UInt8 := [183, 0, 172, 191, 42, 180, 0, 20, 180, 0, 98, 27, 182, 0, 107, 192, 0, 173, 180, 0, 175, 78, 28, 7]
abbrev dktX1_base_1 : List UInt8 := dkwX1_base_1 ++ dktX1_base_2
def dkwX1_base_0 : List UInt8 := [42, 27, 182, 0, 165, 153, 0, 15, 28, 133, 9, 20, 0, 168, 184, 0, 61, 154, 0, 11, 187, 0, 170, 89]
abbrev dktX1_base_0 : List UInt8 := dkwX1_base_0 ++ dktX1_base_1
theorem dksX1_base_0 : cX1_base.data.toList.drop 0 = dktX1_base_0 := by decide +kernel
theorem dksX1_base_1 : cX1_base.data.toList.drop 24 = dktX1_base_1 := dk_seg dksX1_base_0 24 rfl rfl
theorem dksX1_base_2 : cX1_base.data.toList.drop 48 = dktX1_base_2 := dk_seg dksX1_base_1 24 rfl rfl
theorem dksX1_base_3 : cX1_base.data.toList.drop 72 = dktX1_base_3 := dk_seg dksX1_base_2 24 rfl rfl
theorem dX1_base_0 : decode cX1_base 0 = .ok (.aload_n 0, 1) := dk_42 (dk_at dksX1_base_0 0 rfl rfl)
theorem dX1_base_1 : decode cX1_base 1 = .ok (.iload_n 1, 1) := dk_27 (dk_at dksX1_base_0 1 rfl rfl)
theorem dX1_base_2 : decode cX1_base 2 = .ok (.invokevirtual 165, 3) := dk_182 0 165 (dk_at dksX1_base_0 2 rfl rfl)
theorem dX1_base_5 : decode cX1_base 5 = .ok (.ifCond .eq 15, 3) := dk_153 0 15 (dk_at dksX1_base_0 5 rfl rfl)
theorem dX1_base_8 : decode cX1_base 8 = .ok (.iload_n 2, 1) := dk_28 (dk_at dksX1_base_0 8 rfl rfl)
theorem dX1_base_9 : decode cX1_base 9 = .ok (.i2l, 1) := dk_133 (dk_at dksX1_base_0 9 rfl rfl)
theorem dX1_base_10 : decode cX1_base 10 = .ok (.lconst 0, 1) := dk_9 (dk_at dksX1_base_0 10 rfl rfl)
theorem dX1_base_11 : decode cX1_base 11 = .ok (.ldc2_w 168, 3) := dk_20 0 168 (dk_at dksX1_base_0 11 rfl rfl)
theorem dX1_base_14 : decode cX1_base 14 = .ok (.invokestatic 61, 3) := dk_184 0 61 (dk_at dksX1_base_0 14 rfl rfl)
theorem dX1_base_17 : decode cX1_base 17 = .ok (.ifCond .ne 11, 3) := dk_154 0 11 (dk_at dksX1_base_0 17 rfl rfl)
theorem dX1_base_20 : decode cX1_base 20 = .ok (.new 170, 3) := dk_187 0 170 (dk_at dksX1_base_0 20 rfl rfl)
theorem dX1_base_23 : decode cX1_base 23 = .ok (.dup, 1) := dk_89 (dk_at dksX1_base_0 23 rfl rfl)
theorem dX1_base_24 : decode cX1_base 24 = .ok (.invokespecial 172, 3) := dk_183 0 172 (dk_at dksX1_base_1 0 rfl rfl)
theorem dX1_base_27 : decode cX1_base 27 = .ok (.athrow, 1) := dk_191 (dk_at dksX1_base_1 3 rfl rfl)
theorem dX1_base_28 : decode cX1_base 28 = .ok (.aload_n 0, 1) := dk_42 (dk_at dksX1_base_1 4 rfl rfl)
theorem dX1_base_29 : decode cX1_base 29 = .ok (.getfield 20, 3) := dk_180 0 20 (dk_at dksX1_base_1 5 rfl rfl)
theorem dX1_base_32 : decode cX1_base 32 = .ok (.getfield 98, 3) := dk_180 0 98 (dk_at dksX1_base_1 8 rfl rfl)
theorem dX1_base_35 : decode cX1_base 35 = .ok (.iload_n 1, 1) := dk_27 (dk_at dksX1_base_1 11 rfl rfl)
theorem dX1_base_36 : decode cX1_base 36 = .ok (.invokevirtual 107, 3) := dk_182 0 107 (dk_at dksX1_base_1 12 rfl rfl)
theorem dX1_base_39 : decode cX1_base 39 = .ok (.checkcast 173, 3) := dk_192 0 173 (dk_at dksX1_base_1 15 rfl rfl)
theorem dX1_base_42 : decode cX1_base 42 = .ok (.getfield 175, 3) := dk_180 0 175 (dk_at dksX1_base_1 18 rfl rfl)
theorem dX1_base_45 : decode cX1_base 45 = .ok (.astore_n 3, 1) := dk_78 (dk_at dksX1_base_1 21 rfl rfl)
theorem dX1_base_46 : decode cX1_base 46 = .ok (.iload_n 2, 1) := dk_28 (dk_at dksX1_base_1 22 rfl rfl)
theorem dX1_base_47 : decode cX1_base 47 = .ok (.iconst 4, 1) := dk_7 (dk_at dksX1_base_1 23 rfl rfl)
theorem dX1_base_48 : decode cX1_base 48 = .ok (.if_icmp .ge 9, 3) := dk_162 0 9 (dk_at dksX1_base_2 0 rfl rfl)
theorem dX1_base_51 : decode cX1_base 51 = .ok (.aload_n 3, 1) := dk_45 (dk_at dksX1_base_2 3 rfl rfl)
theorem dX1_base_52 : decode cX1_base 52 = .ok (.iload_n 2, 1) := dk_28 (dk_at dksX1_base_2 4 rfl rfl)
theorem dX1_base_53 : decode cX1_base 53 = .ok (.iaload, 1) := dk_46 (dk_at dksX1_base_2 5 rfl rfl)
theorem dX1_base_54 : decode cX1_base 54 = .ok (.goto 26, 3) := dk_167 0 26 (dk_at dksX1_base_2 6 rfl rfl)
theorem dX1_base_57 : decode cX1_base 57 = .ok (.aload_n 0, 1) := dk_42 (dk_at dksX1_base_2 9 rfl rfl)
theorem dX1_base_58 : decode cX1_base 58 = .ok (.getfield 20, 3) := dk_180 0 20 (dk_at dksX1_base_2 10 rfl rfl)
theorem dX1_base_61 : decode cX1_base 61 = .ok (.aload_n 3, 1) := dk_45 (dk_at dksX1_base_2 13 rfl rfl)
theorem dX1_base_62 : decode cX1_base 62 = .ok (.iconst 0, 1) := dk_3 (dk_at dksX1_base_2 14 rfl rfl)
theorem dX1_base_63 : decode cX1_base 63 = .ok (.iaload, 1) := dk_46 (dk_at dksX1_base_2 15 rfl rfl)
theorem dX1_base_64 : decode cX1_base 64 = .ok (.aload_n 3, 1) := dk_45 (dk_at dksX1_base_2 16 rfl rfl)
theorem dX1_base_65 : decode cX1_base 65 = .ok (.iconst 3, 1) := dk_6 (dk_at dksX1_base_2 17 rfl rfl)
theorem dX1_base_66 : decode cX1_base 66 = .ok (.iaload, 1) := dk_46 (dk_at dksX1_base_2 18 rfl rfl)
theorem dX1_base_67 : decode cX1_base 67 = .ok (.imul, 1) := dk_104 (dk_at dksX1_base_2 19 rfl rfl)
theorem dX1_base_68 : decode cX1_base 68 = .ok (.aload_n 3, 1) := dk_45 (dk_at dksX1_base_2 20 rfl rfl)
theorem dX1_base_69 : decode cX1_base 69 = .ok (.iconst 1, 1) := dk_4 (dk_at dksX1_base_2 21 rfl rfl)
theorem dX1_base_70 : decode cX1_base 70 = .ok (.iaload, 1) := dk_46 (dk_at dksX1_base_2 22 rfl rfl)
theorem dX1_base_71 : decode cX1_base 71 = .ok (.aload_n 3, 1) := dk_45 (dk_at dksX1_base_2 23 rfl rfl)
theorem dX1_base_72 : decode cX1_base 72 = .ok (.iconst 2, 1) := dk_5 (dk_at dksX1_base_3 0 rfl rfl)
theorem dX1_base_73 : decode cX1_base 73 = .ok (.iaload, 1) := dk_46 (dk_at dksX1_base_3 1 rfl rfl)
theorem dX1_base_74 : decode cX1_base 74 = .ok (.imul, 1) := dk_104 (dk_at dksX1_base_3 2 rfl rfl)
theorem dX1_base_75 : decode cX1_base 75 = .ok (.isub, 1) := dk_100 (dk_at dksX1_base_3 3 rfl rfl)
theorem dX1_base_76 : decode cX1_base 76 = .ok (.i2l, 1) := dk_133 (dk_at dksX1_base_3 4 rfl rfl)
theorem dX1_base_77 : decode cX1_base 77 = .ok (.invokevirtual 134, 3) := dk_182 0 134 (dk_at dksX1_base_3 5 rfl rfl)
theorem dX1_base_80 : decode cX1_base 80 = .ok (.ireturn, 1) := dk_172 (dk_at dksX1_base_3 8 rfl rfl)
def dkwX1_wire_4 : List UInt8 := [183, 0, 172, 191]
abbrev dktX1_wire_4 : List UInt8 := dkwX1_wire_4 ++ []
def dkwX1_wire_3 : List UInt8 := [45, 182, 0, 221, 172, 45, 182, 0, 224, 172, 45, 182, 0, 227, 172, 45, 182, 0, 230, 172, 187, 0, 170, 89]
abbrev dktX1_wire_3 : List UInt8 := dkwX1_wire_3 ++ dktX1_wire_4
def dkwX1_wire_2 : List UInt8 := [170, 0, 0, 0, 0, 0, 0, 52, 0, 0, 0, 0, 0, 0, 0, 3, 0, 0, 0, 32, 0, 0, 0, 37, 0, 0, 0, 42, 0, 0, 0, 47]
abbrev dktX1_wire_2 : List UInt8 := dkwX1_wire_2 ++ dktX1_wire_3
def dkwX1_wire_1 : List UInt8 := [182, 0, 217, 192, 0, 219, 78, 28]
abbrev dktX1_wire_1 : List UInt8 := dkwX1_wire_1 ++ dktX1_wire_2
def dkwX1_wire_0 : List UInt8 := [42, 27, 182, 0, 214, 154, 0, 11, 187, 0, 170, 89, 183, 0, 172, 191, 42, 180, 0, 27, 180, 0, 104, 27]
abbrev dktX1_wire_0 : List UInt8 := dkwX1_wire_0 ++ dktX1_wire_1
theorem dksX1_wire_0 : cX1_wire.data.toList.drop 0 = dktX1_wire_0 := by decide +kernel
theorem dksX1_wire_1 : cX1_wire.data.toList.drop 24 = dktX1_wire_1 := dk_seg dksX1_wire_0 24 rfl rfl
theorem dksX1_wire_2 : cX1_wire.data.toList.drop 32 = dktX1_wire_2 := dk_seg dksX1_wire_1 8 rfl rfl
theorem dksX1_wire_3 : cX1_wire.data.toList.drop 64 = dktX1_wire_3 := dk_seg dksX1_wire_2 32 rfl rfl
theorem dksX1_wire_4 : cX1_wire.data.toList.drop 88 = dktX1_wire_4 := dk_seg dksX1_wire_3 24 rfl rfl
theorem dX1_wire_0 : decode cX1_wire 0 = .ok (.aload_n 0, 1) := dk_42 (dk_at dksX1_wire_0 0 rfl rfl)
theorem dX1_wire_1 : decode cX1_wire 1 = .ok (.iload_n 1, 1) := dk_27 (dk_at dksX1_wire_0 1 rfl rfl)
theorem dX1_wire_2 : decode cX1_wire 2 = .ok (.invokevirtual 214, 3) := dk_182 0 214 (dk_at dksX1_wire_0 2 rfl rfl)
theorem dX1_wire_5 : decode cX1_wire 5 = .ok (.ifCond .ne 11, 3) := dk_154 0 11 (dk_at dksX1_wire_0 5 rfl rfl)
theorem dX1_wire_8 : decode cX1_wire 8 = .ok (.new 170, 3) := dk_187 0 170 (dk_at dksX1_wire_0 8 rfl rfl)
theorem dX1_wire_11 : decode cX1_wire 11 = .ok (.dup, 1) := dk_89 (dk_at dksX1_wire_0 11 rfl rfl)
theorem dX1_wire_12 : decode cX1_wire 12 = .ok (.invokespecial 172, 3) := dk_183 0 172 (dk_at dksX1_wire_0 12 rfl rfl)
theorem dX1_wire_15 : decode cX1_wire 15 = .ok (.athrow, 1) := dk_191 (dk_at dksX1_wire_0 15 rfl rfl)
theorem dX1_wire_16 : decode cX1_wire 16 = .ok (.aload_n 0, 1) := dk_42 (dk_at dksX1_wire_0 16 rfl rfl)
theorem dX1_wire_17 : decode cX1_wire 17 = .ok (.getfield 27, 3) := dk_180 0 27 (dk_at dksX1_wire_0 17 rfl rfl)
theorem dX1_wire_20 : decode cX1_wire 20 = .ok (.getfield 104, 3) := dk_180 0 104 (dk_at dksX1_wire_0 20 rfl rfl)
theorem dX1_wire_23 : decode cX1_wire 23 = .ok (.iload_n 1, 1) := dk_27 (dk_at dksX1_wire_0 23 rfl rfl)
theorem dX1_wire_24 : decode cX1_wire 24 = .ok (.invokevirtual 217, 3) := dk_182 0 217 (dk_at dksX1_wire_1 0 rfl rfl)
theorem dX1_wire_27 : decode cX1_wire 27 = .ok (.checkcast 219, 3) := dk_192 0 219 (dk_at dksX1_wire_1 3 rfl rfl)
theorem dX1_wire_30 : decode cX1_wire 30 = .ok (.astore_n 3, 1) := dk_78 (dk_at dksX1_wire_1 6 rfl rfl)
theorem dX1_wire_31 : decode cX1_wire 31 = .ok (.iload_n 2, 1) := dk_28 (dk_at dksX1_wire_1 7 rfl rfl)
theorem dX1_wire_32 : decode cX1_wire 32 = .ok (.tableswitch 52 0 3 #[32, 37, 42, 47], 32) := by decide +kernel
theorem dX1_wire_64 : decode cX1_wire 64 = .ok (.aload_n 3, 1) := dk_45 (dk_at dksX1_wire_3 0 rfl rfl)
theorem dX1_wire_65 : decode cX1_wire 65 = .ok (.invokevirtual 221, 3) := dk_182 0 221 (dk_at dksX1_wire_3 1 rfl rfl)
theorem dX1_wire_68 : decode cX1_wire 68 = .ok (.ireturn, 1) := dk_172 (dk_at dksX1_wire_3 4 rfl rfl)
theorem dX1_wire_69 : decode cX1_wire 69 = .ok (.aload_n 3, 1) := dk_45 (dk_at dksX1_wire_3 5 rfl rfl)
theorem dX1_wire_70 : decode cX1_wire 70 = .ok (.invokevirtual 224, 3) := dk_182 0 224 (dk_at dksX1_wire_3 6 rfl rfl)
theorem dX1_wire_73 : decode cX1_wire 73 = .ok (.ireturn, 1) := dk_172 (dk_at dksX1_wire_3 9 rfl rfl)
theorem dX1_wire_74 : decode cX1_wire 74 = .ok (.aload_n 3, 1) := dk_45 (dk_at dksX1_wire_3 10 rfl rfl)
theorem dX1_wire_75 : decode cX1_wire 75 = .ok (.invokevirtual 227, 3) := dk_182 0 227 (dk_at dksX1_wire_3 11 rfl rfl)
theorem dX1_wire_78 : decode cX1_wire 78 = .ok (.ireturn, 1) := dk_172 (dk_at dksX1_wire_3 14 rfl rfl)
theorem dX1_wire_79 : decode cX1_wire 79 = .ok (.aload_n 3, 1) := dk_45 (dk_at dksX1_wire_3 15 rfl rfl)
theorem dX1_wire_80 : decode cX1_wire 80 = .ok (.invokevirtual 230, 3) := dk_182 0 230 (dk_at dksX1_wire_3 16 rfl rfl)
theorem dX1_wire_83 : decode cX1_wire 83 = .ok (.ireturn, 1) := dk_172 (dk_at dksX1_wire_3 19 rfl rfl)
theorem dX1_wire_84 : decode cX1_wire 84 = .ok (.new 170, 3) := dk_187 0 170 (dk_at dksX1_wire_3 20 rfl rfl)
theorem dX1_wire_87 : decode cX1_wire 87 = .ok (.dup, 1) := dk_89 (dk_at dksX1_wire_3 23 rfl rfl)
theorem dX1_wire_88 : decode cX1_wire 88 = .ok (.invokespecial 172, 3) := dk_183 0 172 (dk_at dksX1_wire_4 0 rfl rfl)
theorem dX1_wire_91 : decode cX1_wire 91 = .ok (.athrow, 1) := dk_191 (dk_at dksX1_wire_4 3 rfl rfl)
def dkwX0_base_0 : List UInt8 := [45, 3, 42, 27, 28, 182, 0, 7, 133, 80, 167, 0, 7, 58, 4, 4, 172, 3, 172]
abbrev dktX0_base_0 : List UInt8 := dkwX0_base_0 ++ []
theorem dksX0_base_0 : cX0_base.data.toList.drop 0 = dktX0_base_0 := by decide +kernel
theorem dX0_base_0 : decode cX0_base 0 = .ok (.aload_n 3, 1) := dk_45 (dk_at dksX0_base_0 0 rfl rfl)
theorem dX0_base_1 : decode cX0_base 1 = .ok (.iconst 0, 1) := dk_3 (dk_at dksX0_base_0 1 rfl rfl)
theorem dX0_base_2 : decode cX0_base 2 = .ok (.aload_n 0, 1) := dk_42 (dk_at dksX0_base_0 2 rfl rfl)
theorem dX0_base_3 : decode cX0_base 3 = .ok (.iload_n 1, 1) := dk_27 (dk_at dksX0_base_0 3 rfl rfl)
theorem dX0_base_4 : decode cX0_base 4 = .ok (.iload_n 2, 1) := dk_28 (dk_at dksX0_base_0 4 rfl rfl)
theorem dX0_base_5 : decode cX0_base 5 = .ok (.invokevirtual 7, 3) := dk_182 0 7 (dk_at dksX0_base_0 5 rfl rfl)
theorem dX0_base_8 : decode cX0_base 8 = .ok (.i2l, 1) := dk_133 (dk_at dksX0_base_0 8 rfl rfl)
theorem dX0_base_9 : decode cX0_base 9 = .ok (.lastore, 1) := dk_80 (dk_at dksX0_base_0 9 rfl rfl)
theorem dX0_base_10 : decode cX0_base 10 = .ok (.goto 7, 3) := dk_167 0 7 (dk_at dksX0_base_0 10 rfl rfl)
theorem dX0_base_13 : decode cX0_base 13 = .ok (.astore 4, 2) := dk_58 4 (dk_at dksX0_base_0 13 rfl rfl)
theorem dX0_base_15 : decode cX0_base 15 = .ok (.iconst 1, 1) := dk_4 (dk_at dksX0_base_0 15 rfl rfl)
theorem dX0_base_16 : decode cX0_base 16 = .ok (.ireturn, 1) := dk_172 (dk_at dksX0_base_0 16 rfl rfl)
theorem dX0_base_17 : decode cX0_base 17 = .ok (.iconst 0, 1) := dk_3 (dk_at dksX0_base_0 17 rfl rfl)
theorem dX0_base_18 : decode cX0_base 18 = .ok (.ireturn, 1) := dk_172 (dk_at dksX0_base_0 18 rfl rfl)
def dkwX0_wire_0 : List UInt8 := [45, 3, 42, 27, 28, 182, 0, 15, 133, 80, 167, 0, 7, 58, 4, 4, 172, 3, 172]
abbrev dktX0_wire_0 : List UInt8 := dkwX0_wire_0 ++ []
theorem dksX0_wire_0 : cX0_wire.data.toList.drop 0 = dktX0_wire_0 := by decide +kernel
theorem dX0_wire_0 : decode cX0_wire 0 = .ok (.aload_n 3, 1) := dk_45 (dk_at dksX0_wire_0 0 rfl rfl)
theorem dX0_wire_1 : decode cX0_wire 1 = .ok (.iconst 0, 1) := dk_3 (dk_at dksX0_wire_0 1 rfl rfl)
theorem dX0_wire_2 : decode cX0_wire 2 = .ok (.aload_n 0, 1) := dk_42 (dk_at dksX0_wire_0 2 rfl rfl)
theorem dX0_wire_3 : decode cX0_wire 3 = .ok (.iload_n 1, 1) := dk_27 (dk_at dksX0_wire_0 3 rfl rfl)
theorem dX0_wire_4 : decode cX0_wire 4 = .ok (.iload_n 2, 1) := dk_28 (dk_at dksX0_wire_0 4 rfl rfl)
theorem dX0_wire_5 : decode cX0_wire 5 = .ok (.invokevirtual 15, 3) := dk_182 0 15 (dk_at dksX0_wire_0 5 rfl rfl)
theorem dX0_wire_8 : decode cX0_wire 8 = .ok (.i2l, 1) := dk_133 (dk_at dksX0_wire_0 8 rfl rfl)
theorem dX0_wire_9 : decode cX0_wire 9 = .ok (.lastore, 1) := dk_80 (dk_at dksX0_wire_0 9 rfl rfl)
theorem dX0_wire_10 : decode cX0_wire 10 = .ok (.goto 7, 3) := dk_167 0 7 (dk_at dksX0_wire_0 10 rfl rfl)
theorem dX0_wire_13 : decode cX0_wire 13 = .ok (.astore 4, 2) := dk_58 4 (dk_at dksX0_wire_0 13 rfl rfl)
theorem dX0_wire_15 : decode cX0_wire 15 = .ok (.iconst 1, 1) := dk_4 (dk_at dksX0_wire_0 15 rfl rfl)
theorem dX0_wire_16 : decode cX0_wire 16 = .ok (.ireturn, 1) := dk_172 (dk_at dksX0_wire_0 16 rfl rfl)
theorem dX0_wire_17 : decode cX0_wire 17 = .ok (.iconst 0, 1) := dk_3 (dk_at dksX0_wire_0 17 rfl rfl)
theorem dX0_wire_18 : decode cX0_wire 18 = .ok (.ireturn, 1) := dk_172 (dk_at dksX0_wire_0 18 rfl rfl)
