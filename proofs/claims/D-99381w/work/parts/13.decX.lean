set_option maxRecDepth 100000
def dkwX0_rests_0 : List UInt8 := [25, 5, 3, 42, 27, 28, 29, 21, 4, 182, 0, 7, 133, 80, 167, 0, 7, 58, 6, 4, 172, 3, 172]
abbrev dktX0_rests_0 : List UInt8 := dkwX0_rests_0 ++ []
theorem dksX0_rests_0 : cX0_rests.data.toList.drop 0 = dktX0_rests_0 := by decide +kernel
theorem dX0_rests_0 : decode cX0_rests 0 = .ok (.aload 5, 2) := dk_25 5 (dk_at dksX0_rests_0 0 rfl rfl)
theorem dX0_rests_2 : decode cX0_rests 2 = .ok (.iconst 0, 1) := dk_3 (dk_at dksX0_rests_0 2 rfl rfl)
theorem dX0_rests_3 : decode cX0_rests 3 = .ok (.aload_n 0, 1) := dk_42 (dk_at dksX0_rests_0 3 rfl rfl)
theorem dX0_rests_4 : decode cX0_rests 4 = .ok (.iload_n 1, 1) := dk_27 (dk_at dksX0_rests_0 4 rfl rfl)
theorem dX0_rests_5 : decode cX0_rests 5 = .ok (.iload_n 2, 1) := dk_28 (dk_at dksX0_rests_0 5 rfl rfl)
theorem dX0_rests_6 : decode cX0_rests 6 = .ok (.iload_n 3, 1) := dk_29 (dk_at dksX0_rests_0 6 rfl rfl)
theorem dX0_rests_7 : decode cX0_rests 7 = .ok (.iload 4, 2) := dk_21 4 (dk_at dksX0_rests_0 7 rfl rfl)
theorem dX0_rests_9 : decode cX0_rests 9 = .ok (.invokevirtual 7, 3) := dk_182 0 7 (dk_at dksX0_rests_0 9 rfl rfl)
theorem dX0_rests_12 : decode cX0_rests 12 = .ok (.i2l, 1) := dk_133 (dk_at dksX0_rests_0 12 rfl rfl)
theorem dX0_rests_13 : decode cX0_rests 13 = .ok (.lastore, 1) := dk_80 (dk_at dksX0_rests_0 13 rfl rfl)
theorem dX0_rests_14 : decode cX0_rests 14 = .ok (.goto 7, 3) := dk_167 0 7 (dk_at dksX0_rests_0 14 rfl rfl)
theorem dX0_rests_17 : decode cX0_rests 17 = .ok (.astore 6, 2) := dk_58 6 (dk_at dksX0_rests_0 17 rfl rfl)
theorem dX0_rests_19 : decode cX0_rests 19 = .ok (.iconst 1, 1) := dk_4 (dk_at dksX0_rests_0 19 rfl rfl)
theorem dX0_rests_20 : decode cX0_rests 20 = .ok (.ireturn, 1) := dk_172 (dk_at dksX0_rests_0 20 rfl rfl)
theorem dX0_rests_21 : decode cX0_rests 21 = .ok (.iconst 0, 1) := dk_3 (dk_at dksX0_rests_0 21 rfl rfl)
theorem dX0_rests_22 : decode cX0_rests 22 = .ok (.ireturn, 1) := dk_172 (dk_at dksX0_rests_0 22 rfl rfl)
def dkwX1_init_5 : List UInt8 := [7, 189, 0, 86, 181, 0, 88, 177]
abbrev dktX1_init_5 : List UInt8 := dkwX1_init_5 ++ []
def dkwX1_init_4 : List UInt8 := [187, 0, 72, 89, 42, 183, 0, 74, 181, 0, 75, 42, 187, 0, 79, 89, 42, 183, 0, 81, 181, 0, 82, 42]
abbrev dktX1_init_4 : List UInt8 := dkwX1_init_4 ++ dktX1_init_5
def dkwX1_init_3 : List UInt8 := [42, 187, 0, 47, 89, 183, 0, 59, 181, 0, 60, 42, 187, 0, 63, 89, 42, 183, 0, 65, 181, 0, 68, 42]
abbrev dktX1_init_3 : List UInt8 := dkwX1_init_3 ++ dktX1_init_4
def dkwX1_init_2 : List UInt8 := [42, 187, 0, 47, 89, 5, 183, 0, 49, 181, 0, 52, 42, 187, 0, 47, 89, 5, 183, 0, 49, 181, 0, 56]
abbrev dktX1_init_2 : List UInt8 := dkwX1_init_2 ++ dktX1_init_3
def dkwX1_init_1 : List UInt8 := [187, 0, 33, 89, 183, 0, 35, 182, 0, 36, 181, 0, 40, 42, 187, 0, 30, 89, 183, 0, 32, 181, 0, 44]
abbrev dktX1_init_1 : List UInt8 := dkwX1_init_1 ++ dktX1_init_2
def dkwX1_init_0 : List UInt8 := [42, 183, 0, 16, 42, 187, 0, 21, 89, 183, 0, 23, 181, 0, 24, 42, 187, 0, 30, 89, 183, 0, 32]
abbrev dktX1_init_0 : List UInt8 := dkwX1_init_0 ++ dktX1_init_1
theorem dksX1_init_0 : cX1_init.data.toList.drop 0 = dktX1_init_0 := by decide +kernel
theorem dksX1_init_1 : cX1_init.data.toList.drop 23 = dktX1_init_1 := dk_seg dksX1_init_0 23 rfl rfl
theorem dksX1_init_2 : cX1_init.data.toList.drop 47 = dktX1_init_2 := dk_seg dksX1_init_1 24 rfl rfl
theorem dksX1_init_3 : cX1_init.data.toList.drop 71 = dktX1_init_3 := dk_seg dksX1_init_2 24 rfl rfl
theorem dksX1_init_4 : cX1_init.data.toList.drop 95 = dktX1_init_4 := dk_seg dksX1_init_3 24 rfl rfl
theorem dksX1_init_5 : cX1_init.data.toList.drop 119 = dktX1_init_5 := dk_seg dksX1_init_4 24 rfl rfl
theorem dX1_init_0 : decode cX1_init 0 = .ok (.aload_n 0, 1) := dk_42 (dk_at dksX1_init_0 0 rfl rfl)
theorem dX1_init_1 : decode cX1_init 1 = .ok (.invokespecial 16, 3) := dk_183 0 16 (dk_at dksX1_init_0 1 rfl rfl)
theorem dX1_init_4 : decode cX1_init 4 = .ok (.aload_n 0, 1) := dk_42 (dk_at dksX1_init_0 4 rfl rfl)
theorem dX1_init_5 : decode cX1_init 5 = .ok (.new 21, 3) := dk_187 0 21 (dk_at dksX1_init_0 5 rfl rfl)
theorem dX1_init_8 : decode cX1_init 8 = .ok (.dup, 1) := dk_89 (dk_at dksX1_init_0 8 rfl rfl)
theorem dX1_init_9 : decode cX1_init 9 = .ok (.invokespecial 23, 3) := dk_183 0 23 (dk_at dksX1_init_0 9 rfl rfl)
theorem dX1_init_12 : decode cX1_init 12 = .ok (.putfield 24, 3) := dk_181 0 24 (dk_at dksX1_init_0 12 rfl rfl)
theorem dX1_init_15 : decode cX1_init 15 = .ok (.aload_n 0, 1) := dk_42 (dk_at dksX1_init_0 15 rfl rfl)
theorem dX1_init_16 : decode cX1_init 16 = .ok (.new 30, 3) := dk_187 0 30 (dk_at dksX1_init_0 16 rfl rfl)
theorem dX1_init_19 : decode cX1_init 19 = .ok (.dup, 1) := dk_89 (dk_at dksX1_init_0 19 rfl rfl)
theorem dX1_init_20 : decode cX1_init 20 = .ok (.invokespecial 32, 3) := dk_183 0 32 (dk_at dksX1_init_0 20 rfl rfl)
theorem dX1_init_23 : decode cX1_init 23 = .ok (.new 33, 3) := dk_187 0 33 (dk_at dksX1_init_1 0 rfl rfl)
theorem dX1_init_26 : decode cX1_init 26 = .ok (.dup, 1) := dk_89 (dk_at dksX1_init_1 3 rfl rfl)
theorem dX1_init_27 : decode cX1_init 27 = .ok (.invokespecial 35, 3) := dk_183 0 35 (dk_at dksX1_init_1 4 rfl rfl)
theorem dX1_init_30 : decode cX1_init 30 = .ok (.invokevirtual 36, 3) := dk_182 0 36 (dk_at dksX1_init_1 7 rfl rfl)
theorem dX1_init_33 : decode cX1_init 33 = .ok (.putfield 40, 3) := dk_181 0 40 (dk_at dksX1_init_1 10 rfl rfl)
theorem dX1_init_36 : decode cX1_init 36 = .ok (.aload_n 0, 1) := dk_42 (dk_at dksX1_init_1 13 rfl rfl)
theorem dX1_init_37 : decode cX1_init 37 = .ok (.new 30, 3) := dk_187 0 30 (dk_at dksX1_init_1 14 rfl rfl)
theorem dX1_init_40 : decode cX1_init 40 = .ok (.dup, 1) := dk_89 (dk_at dksX1_init_1 17 rfl rfl)
theorem dX1_init_41 : decode cX1_init 41 = .ok (.invokespecial 32, 3) := dk_183 0 32 (dk_at dksX1_init_1 18 rfl rfl)
theorem dX1_init_44 : decode cX1_init 44 = .ok (.putfield 44, 3) := dk_181 0 44 (dk_at dksX1_init_1 21 rfl rfl)
theorem dX1_init_47 : decode cX1_init 47 = .ok (.aload_n 0, 1) := dk_42 (dk_at dksX1_init_2 0 rfl rfl)
theorem dX1_init_48 : decode cX1_init 48 = .ok (.new 47, 3) := dk_187 0 47 (dk_at dksX1_init_2 1 rfl rfl)
theorem dX1_init_51 : decode cX1_init 51 = .ok (.dup, 1) := dk_89 (dk_at dksX1_init_2 4 rfl rfl)
theorem dX1_init_52 : decode cX1_init 52 = .ok (.iconst 2, 1) := dk_5 (dk_at dksX1_init_2 5 rfl rfl)
theorem dX1_init_53 : decode cX1_init 53 = .ok (.invokespecial 49, 3) := dk_183 0 49 (dk_at dksX1_init_2 6 rfl rfl)
theorem dX1_init_56 : decode cX1_init 56 = .ok (.putfield 52, 3) := dk_181 0 52 (dk_at dksX1_init_2 9 rfl rfl)
theorem dX1_init_59 : decode cX1_init 59 = .ok (.aload_n 0, 1) := dk_42 (dk_at dksX1_init_2 12 rfl rfl)
theorem dX1_init_60 : decode cX1_init 60 = .ok (.new 47, 3) := dk_187 0 47 (dk_at dksX1_init_2 13 rfl rfl)
theorem dX1_init_63 : decode cX1_init 63 = .ok (.dup, 1) := dk_89 (dk_at dksX1_init_2 16 rfl rfl)
theorem dX1_init_64 : decode cX1_init 64 = .ok (.iconst 2, 1) := dk_5 (dk_at dksX1_init_2 17 rfl rfl)
theorem dX1_init_65 : decode cX1_init 65 = .ok (.invokespecial 49, 3) := dk_183 0 49 (dk_at dksX1_init_2 18 rfl rfl)
theorem dX1_init_68 : decode cX1_init 68 = .ok (.putfield 56, 3) := dk_181 0 56 (dk_at dksX1_init_2 21 rfl rfl)
theorem dX1_init_71 : decode cX1_init 71 = .ok (.aload_n 0, 1) := dk_42 (dk_at dksX1_init_3 0 rfl rfl)
theorem dX1_init_72 : decode cX1_init 72 = .ok (.new 47, 3) := dk_187 0 47 (dk_at dksX1_init_3 1 rfl rfl)
theorem dX1_init_75 : decode cX1_init 75 = .ok (.dup, 1) := dk_89 (dk_at dksX1_init_3 4 rfl rfl)
theorem dX1_init_76 : decode cX1_init 76 = .ok (.invokespecial 59, 3) := dk_183 0 59 (dk_at dksX1_init_3 5 rfl rfl)
theorem dX1_init_79 : decode cX1_init 79 = .ok (.putfield 60, 3) := dk_181 0 60 (dk_at dksX1_init_3 8 rfl rfl)
theorem dX1_init_82 : decode cX1_init 82 = .ok (.aload_n 0, 1) := dk_42 (dk_at dksX1_init_3 11 rfl rfl)
theorem dX1_init_83 : decode cX1_init 83 = .ok (.new 63, 3) := dk_187 0 63 (dk_at dksX1_init_3 12 rfl rfl)
theorem dX1_init_86 : decode cX1_init 86 = .ok (.dup, 1) := dk_89 (dk_at dksX1_init_3 15 rfl rfl)
theorem dX1_init_87 : decode cX1_init 87 = .ok (.aload_n 0, 1) := dk_42 (dk_at dksX1_init_3 16 rfl rfl)
theorem dX1_init_88 : decode cX1_init 88 = .ok (.invokespecial 65, 3) := dk_183 0 65 (dk_at dksX1_init_3 17 rfl rfl)
theorem dX1_init_91 : decode cX1_init 91 = .ok (.putfield 68, 3) := dk_181 0 68 (dk_at dksX1_init_3 20 rfl rfl)
theorem dX1_init_94 : decode cX1_init 94 = .ok (.aload_n 0, 1) := dk_42 (dk_at dksX1_init_3 23 rfl rfl)
theorem dX1_init_95 : decode cX1_init 95 = .ok (.new 72, 3) := dk_187 0 72 (dk_at dksX1_init_4 0 rfl rfl)
theorem dX1_init_98 : decode cX1_init 98 = .ok (.dup, 1) := dk_89 (dk_at dksX1_init_4 3 rfl rfl)
theorem dX1_init_99 : decode cX1_init 99 = .ok (.aload_n 0, 1) := dk_42 (dk_at dksX1_init_4 4 rfl rfl)
theorem dX1_init_100 : decode cX1_init 100 = .ok (.invokespecial 74, 3) := dk_183 0 74 (dk_at dksX1_init_4 5 rfl rfl)
theorem dX1_init_103 : decode cX1_init 103 = .ok (.putfield 75, 3) := dk_181 0 75 (dk_at dksX1_init_4 8 rfl rfl)
theorem dX1_init_106 : decode cX1_init 106 = .ok (.aload_n 0, 1) := dk_42 (dk_at dksX1_init_4 11 rfl rfl)
theorem dX1_init_107 : decode cX1_init 107 = .ok (.new 79, 3) := dk_187 0 79 (dk_at dksX1_init_4 12 rfl rfl)
theorem dX1_init_110 : decode cX1_init 110 = .ok (.dup, 1) := dk_89 (dk_at dksX1_init_4 15 rfl rfl)
theorem dX1_init_111 : decode cX1_init 111 = .ok (.aload_n 0, 1) := dk_42 (dk_at dksX1_init_4 16 rfl rfl)
theorem dX1_init_112 : decode cX1_init 112 = .ok (.invokespecial 81, 3) := dk_183 0 81 (dk_at dksX1_init_4 17 rfl rfl)
theorem dX1_init_115 : decode cX1_init 115 = .ok (.putfield 82, 3) := dk_181 0 82 (dk_at dksX1_init_4 20 rfl rfl)
theorem dX1_init_118 : decode cX1_init 118 = .ok (.aload_n 0, 1) := dk_42 (dk_at dksX1_init_4 23 rfl rfl)
theorem dX1_init_119 : decode cX1_init 119 = .ok (.iconst 4, 1) := dk_7 (dk_at dksX1_init_5 0 rfl rfl)
theorem dX1_init_120 : decode cX1_init 120 = .ok (.anewarray 86, 3) := dk_189 0 86 (dk_at dksX1_init_5 1 rfl rfl)
theorem dX1_init_123 : decode cX1_init 123 = .ok (.putfield 88, 3) := dk_181 0 88 (dk_at dksX1_init_5 4 rfl rfl)
theorem dX1_init_126 : decode cX1_init 126 = .ok (.return_, 1) := dk_177 (dk_at dksX1_init_5 7 rfl rfl)
def dkwX1_feed_1 : List UInt8 := [182, 0, 92, 42, 180, 0, 24, 180, 0, 96, 172]
abbrev dktX1_feed_1 : List UInt8 := dkwX1_feed_1 ++ []
def dkwX1_feed_0 : List UInt8 := [42, 180, 0, 24, 31, 182, 0, 92, 42, 180, 0, 24, 33, 182, 0, 92, 42, 180, 0, 24, 22, 5]
abbrev dktX1_feed_0 : List UInt8 := dkwX1_feed_0 ++ dktX1_feed_1
theorem dksX1_feed_0 : cX1_feed.data.toList.drop 0 = dktX1_feed_0 := by decide +kernel
theorem dksX1_feed_1 : cX1_feed.data.toList.drop 22 = dktX1_feed_1 := dk_seg dksX1_feed_0 22 rfl rfl
theorem dX1_feed_0 : decode cX1_feed 0 = .ok (.aload_n 0, 1) := dk_42 (dk_at dksX1_feed_0 0 rfl rfl)
theorem dX1_feed_1 : decode cX1_feed 1 = .ok (.getfield 24, 3) := dk_180 0 24 (dk_at dksX1_feed_0 1 rfl rfl)
theorem dX1_feed_4 : decode cX1_feed 4 = .ok (.lload_n 1, 1) := dk_31 (dk_at dksX1_feed_0 4 rfl rfl)
theorem dX1_feed_5 : decode cX1_feed 5 = .ok (.invokevirtual 92, 3) := dk_182 0 92 (dk_at dksX1_feed_0 5 rfl rfl)
theorem dX1_feed_8 : decode cX1_feed 8 = .ok (.aload_n 0, 1) := dk_42 (dk_at dksX1_feed_0 8 rfl rfl)
theorem dX1_feed_9 : decode cX1_feed 9 = .ok (.getfield 24, 3) := dk_180 0 24 (dk_at dksX1_feed_0 9 rfl rfl)
theorem dX1_feed_12 : decode cX1_feed 12 = .ok (.lload_n 3, 1) := dk_33 (dk_at dksX1_feed_0 12 rfl rfl)
theorem dX1_feed_13 : decode cX1_feed 13 = .ok (.invokevirtual 92, 3) := dk_182 0 92 (dk_at dksX1_feed_0 13 rfl rfl)
theorem dX1_feed_16 : decode cX1_feed 16 = .ok (.aload_n 0, 1) := dk_42 (dk_at dksX1_feed_0 16 rfl rfl)
theorem dX1_feed_17 : decode cX1_feed 17 = .ok (.getfield 24, 3) := dk_180 0 24 (dk_at dksX1_feed_0 17 rfl rfl)
theorem dX1_feed_20 : decode cX1_feed 20 = .ok (.lload 5, 2) := dk_22 5 (dk_at dksX1_feed_0 20 rfl rfl)
theorem dX1_feed_22 : decode cX1_feed 22 = .ok (.invokevirtual 92, 3) := dk_182 0 92 (dk_at dksX1_feed_1 0 rfl rfl)
theorem dX1_feed_25 : decode cX1_feed 25 = .ok (.aload_n 0, 1) := dk_42 (dk_at dksX1_feed_1 3 rfl rfl)
theorem dX1_feed_26 : decode cX1_feed 26 = .ok (.getfield 24, 3) := dk_180 0 24 (dk_at dksX1_feed_1 4 rfl rfl)
theorem dX1_feed_29 : decode cX1_feed 29 = .ok (.getfield 96, 3) := dk_180 0 96 (dk_at dksX1_feed_1 7 rfl rfl)
theorem dX1_feed_32 : decode cX1_feed 32 = .ok (.ireturn, 1) := dk_172 (dk_at dksX1_feed_1 10 rfl rfl)
def dkwX1_within_0 : List UInt8 := [26, 27, 161, 0, 12, 26, 28, 163, 0, 7, 4, 167, 0, 4, 3, 172]
abbrev dktX1_within_0 : List UInt8 := dkwX1_within_0 ++ []
theorem dksX1_within_0 : cX1_within.data.toList.drop 0 = dktX1_within_0 := by decide +kernel
theorem dX1_within_0 : decode cX1_within 0 = .ok (.iload_n 0, 1) := dk_26 (dk_at dksX1_within_0 0 rfl rfl)
theorem dX1_within_1 : decode cX1_within 1 = .ok (.iload_n 1, 1) := dk_27 (dk_at dksX1_within_0 1 rfl rfl)
theorem dX1_within_2 : decode cX1_within 2 = .ok (.if_icmp .lt 12, 3) := dk_161 0 12 (dk_at dksX1_within_0 2 rfl rfl)
theorem dX1_within_5 : decode cX1_within 5 = .ok (.iload_n 0, 1) := dk_26 (dk_at dksX1_within_0 5 rfl rfl)
theorem dX1_within_6 : decode cX1_within 6 = .ok (.iload_n 2, 1) := dk_28 (dk_at dksX1_within_0 6 rfl rfl)
theorem dX1_within_7 : decode cX1_within 7 = .ok (.if_icmp .gt 7, 3) := dk_163 0 7 (dk_at dksX1_within_0 7 rfl rfl)
theorem dX1_within_10 : decode cX1_within 10 = .ok (.iconst 1, 1) := dk_4 (dk_at dksX1_within_0 10 rfl rfl)
theorem dX1_within_11 : decode cX1_within 11 = .ok (.goto 4, 3) := dk_167 0 4 (dk_at dksX1_within_0 11 rfl rfl)
theorem dX1_within_14 : decode cX1_within 14 = .ok (.iconst 0, 1) := dk_3 (dk_at dksX1_within_0 14 rfl rfl)
theorem dX1_within_15 : decode cX1_within 15 = .ok (.ireturn, 1) := dk_172 (dk_at dksX1_within_0 15 rfl rfl)
def dkwX1_camp_3 : List UInt8 := [167, 255, 241, 3, 172, 76, 43, 180, 0, 109, 172]
abbrev dktX1_camp_3 : List UInt8 := dkwX1_camp_3 ++ []
def dkwX1_camp_2 : List UInt8 := [180, 0, 60, 182, 0, 104, 3, 60, 27, 7, 162, 0, 16, 42, 180, 0, 88, 27, 1, 83, 132, 1, 1]
abbrev dktX1_camp_2 : List UInt8 := dkwX1_camp_2 ++ dktX1_camp_3
def dkwX1_camp_1 : List UInt8 := [187, 0, 47, 89, 5, 183, 0, 49, 181, 0, 52, 42, 187, 0, 47, 89, 5, 183, 0, 49, 181, 0, 56, 42]
abbrev dktX1_camp_1 : List UInt8 := dkwX1_camp_1 ++ dktX1_camp_2
def dkwX1_camp_0 : List UInt8 := [42, 187, 0, 30, 89, 183, 0, 32, 42, 180, 0, 24, 182, 0, 100, 182, 0, 36, 181, 0, 40, 42]
abbrev dktX1_camp_0 : List UInt8 := dkwX1_camp_0 ++ dktX1_camp_1
theorem dksX1_camp_0 : cX1_camp.data.toList.drop 0 = dktX1_camp_0 := by decide +kernel
theorem dksX1_camp_1 : cX1_camp.data.toList.drop 22 = dktX1_camp_1 := dk_seg dksX1_camp_0 22 rfl rfl
theorem dksX1_camp_2 : cX1_camp.data.toList.drop 46 = dktX1_camp_2 := dk_seg dksX1_camp_1 24 rfl rfl
theorem dksX1_camp_3 : cX1_camp.data.toList.drop 69 = dktX1_camp_3 := dk_seg dksX1_camp_2 23 rfl rfl
theorem dX1_camp_0 : decode cX1_camp 0 = .ok (.aload_n 0, 1) := dk_42 (dk_at dksX1_camp_0 0 rfl rfl)
theorem dX1_camp_1 : decode cX1_camp 1 = .ok (.new 30, 3) := dk_187 0 30 (dk_at dksX1_camp_0 1 rfl rfl)
theorem dX1_camp_4 : decode cX1_camp 4 = .ok (.dup, 1) := dk_89 (dk_at dksX1_camp_0 4 rfl rfl)
theorem dX1_camp_5 : decode cX1_camp 5 = .ok (.invokespecial 32, 3) := dk_183 0 32 (dk_at dksX1_camp_0 5 rfl rfl)
theorem dX1_camp_8 : decode cX1_camp 8 = .ok (.aload_n 0, 1) := dk_42 (dk_at dksX1_camp_0 8 rfl rfl)
theorem dX1_camp_9 : decode cX1_camp 9 = .ok (.getfield 24, 3) := dk_180 0 24 (dk_at dksX1_camp_0 9 rfl rfl)
theorem dX1_camp_12 : decode cX1_camp 12 = .ok (.invokevirtual 100, 3) := dk_182 0 100 (dk_at dksX1_camp_0 12 rfl rfl)
theorem dX1_camp_15 : decode cX1_camp 15 = .ok (.invokevirtual 36, 3) := dk_182 0 36 (dk_at dksX1_camp_0 15 rfl rfl)
theorem dX1_camp_18 : decode cX1_camp 18 = .ok (.putfield 40, 3) := dk_181 0 40 (dk_at dksX1_camp_0 18 rfl rfl)
theorem dX1_camp_21 : decode cX1_camp 21 = .ok (.aload_n 0, 1) := dk_42 (dk_at dksX1_camp_0 21 rfl rfl)
theorem dX1_camp_22 : decode cX1_camp 22 = .ok (.new 47, 3) := dk_187 0 47 (dk_at dksX1_camp_1 0 rfl rfl)
theorem dX1_camp_25 : decode cX1_camp 25 = .ok (.dup, 1) := dk_89 (dk_at dksX1_camp_1 3 rfl rfl)
theorem dX1_camp_26 : decode cX1_camp 26 = .ok (.iconst 2, 1) := dk_5 (dk_at dksX1_camp_1 4 rfl rfl)
theorem dX1_camp_27 : decode cX1_camp 27 = .ok (.invokespecial 49, 3) := dk_183 0 49 (dk_at dksX1_camp_1 5 rfl rfl)
theorem dX1_camp_30 : decode cX1_camp 30 = .ok (.putfield 52, 3) := dk_181 0 52 (dk_at dksX1_camp_1 8 rfl rfl)
theorem dX1_camp_33 : decode cX1_camp 33 = .ok (.aload_n 0, 1) := dk_42 (dk_at dksX1_camp_1 11 rfl rfl)
theorem dX1_camp_34 : decode cX1_camp 34 = .ok (.new 47, 3) := dk_187 0 47 (dk_at dksX1_camp_1 12 rfl rfl)
theorem dX1_camp_37 : decode cX1_camp 37 = .ok (.dup, 1) := dk_89 (dk_at dksX1_camp_1 15 rfl rfl)
theorem dX1_camp_38 : decode cX1_camp 38 = .ok (.iconst 2, 1) := dk_5 (dk_at dksX1_camp_1 16 rfl rfl)
theorem dX1_camp_39 : decode cX1_camp 39 = .ok (.invokespecial 49, 3) := dk_183 0 49 (dk_at dksX1_camp_1 17 rfl rfl)
theorem dX1_camp_42 : decode cX1_camp 42 = .ok (.putfield 56, 3) := dk_181 0 56 (dk_at dksX1_camp_1 20 rfl rfl)
theorem dX1_camp_45 : decode cX1_camp 45 = .ok (.aload_n 0, 1) := dk_42 (dk_at dksX1_camp_1 23 rfl rfl)
theorem dX1_camp_46 : decode cX1_camp 46 = .ok (.getfield 60, 3) := dk_180 0 60 (dk_at dksX1_camp_2 0 rfl rfl)
theorem dX1_camp_49 : decode cX1_camp 49 = .ok (.invokevirtual 104, 3) := dk_182 0 104 (dk_at dksX1_camp_2 3 rfl rfl)
theorem dX1_camp_52 : decode cX1_camp 52 = .ok (.iconst 0, 1) := dk_3 (dk_at dksX1_camp_2 6 rfl rfl)
theorem dX1_camp_53 : decode cX1_camp 53 = .ok (.istore_n 1, 1) := dk_60 (dk_at dksX1_camp_2 7 rfl rfl)
theorem dX1_camp_54 : decode cX1_camp 54 = .ok (.iload_n 1, 1) := dk_27 (dk_at dksX1_camp_2 8 rfl rfl)
theorem dX1_camp_55 : decode cX1_camp 55 = .ok (.iconst 4, 1) := dk_7 (dk_at dksX1_camp_2 9 rfl rfl)
theorem dX1_camp_56 : decode cX1_camp 56 = .ok (.if_icmp .ge 16, 3) := dk_162 0 16 (dk_at dksX1_camp_2 10 rfl rfl)
theorem dX1_camp_59 : decode cX1_camp 59 = .ok (.aload_n 0, 1) := dk_42 (dk_at dksX1_camp_2 13 rfl rfl)
theorem dX1_camp_60 : decode cX1_camp 60 = .ok (.getfield 88, 3) := dk_180 0 88 (dk_at dksX1_camp_2 14 rfl rfl)
theorem dX1_camp_63 : decode cX1_camp 63 = .ok (.iload_n 1, 1) := dk_27 (dk_at dksX1_camp_2 17 rfl rfl)
theorem dX1_camp_64 : decode cX1_camp 64 = .ok (.aconst_null, 1) := dk_1 (dk_at dksX1_camp_2 18 rfl rfl)
theorem dX1_camp_65 : decode cX1_camp 65 = .ok (.aastore, 1) := dk_83 (dk_at dksX1_camp_2 19 rfl rfl)
theorem dX1_camp_66 : decode cX1_camp 66 = .ok (.iinc 1 1, 3) := dk_132 1 1 (dk_at dksX1_camp_2 20 rfl rfl)
theorem dX1_camp_69 : decode cX1_camp 69 = .ok (.goto (-15), 3) := dk_167 255 241 (dk_at dksX1_camp_3 0 rfl rfl)
theorem dX1_camp_72 : decode cX1_camp 72 = .ok (.iconst 0, 1) := dk_3 (dk_at dksX1_camp_3 3 rfl rfl)
theorem dX1_camp_73 : decode cX1_camp 73 = .ok (.ireturn, 1) := dk_172 (dk_at dksX1_camp_3 4 rfl rfl)
theorem dX1_camp_74 : decode cX1_camp 74 = .ok (.astore_n 1, 1) := dk_76 (dk_at dksX1_camp_3 5 rfl rfl)
theorem dX1_camp_75 : decode cX1_camp 75 = .ok (.aload_n 1, 1) := dk_43 (dk_at dksX1_camp_3 6 rfl rfl)
theorem dX1_camp_76 : decode cX1_camp 76 = .ok (.getfield 109, 3) := dk_180 0 109 (dk_at dksX1_camp_3 7 rfl rfl)
theorem dX1_camp_79 : decode cX1_camp 79 = .ok (.ireturn, 1) := dk_172 (dk_at dksX1_camp_3 10 rfl rfl)
def dkwX1_made_4 : List UInt8 := [25, 4, 183, 0, 15, 176]
abbrev dktX1_made_4 : List UInt8 := dkwX1_made_4 ++ []
def dkwX1_made_3 : List UInt8 := [183, 0, 9, 176, 187, 0, 10, 89, 27, 28, 29, 25, 4, 183, 0, 12, 176, 187, 0, 13, 89, 27, 28, 29]
abbrev dktX1_made_3 : List UInt8 := dkwX1_made_3 ++ dktX1_made_4
def dkwX1_made_2 : List UInt8 := [187, 0, 1, 89, 27, 28, 29, 25, 4, 183, 0, 3, 176, 187, 0, 7, 89, 27, 28, 29, 25, 4]
abbrev dktX1_made_2 : List UInt8 := dkwX1_made_2 ++ dktX1_made_3
def dkwX1_made_1 : List UInt8 := [170, 0, 0, 0, 0, 0, 66, 0, 0, 0, 1, 0, 0, 0, 3, 0, 0, 0, 27, 0, 0, 0, 40, 0, 0, 0, 53]
abbrev dktX1_made_1 : List UInt8 := dkwX1_made_1 ++ dktX1_made_2
def dkwX1_made_0 : List UInt8 := [26]
abbrev dktX1_made_0 : List UInt8 := dkwX1_made_0 ++ dktX1_made_1
theorem dksX1_made_0 : cX1_made.data.toList.drop 0 = dktX1_made_0 := by decide +kernel
theorem dksX1_made_1 : cX1_made.data.toList.drop 1 = dktX1_made_1 := dk_seg dksX1_made_0 1 rfl rfl
theorem dksX1_made_2 : cX1_made.data.toList.drop 28 = dktX1_made_2 := dk_seg dksX1_made_1 27 rfl rfl
theorem dksX1_made_3 : cX1_made.data.toList.drop 50 = dktX1_made_3 := dk_seg dksX1_made_2 22 rfl rfl
theorem dksX1_made_4 : cX1_made.data.toList.drop 74 = dktX1_made_4 := dk_seg dksX1_made_3 24 rfl rfl
theorem dX1_made_0 : decode cX1_made 0 = .ok (.iload_n 0, 1) := dk_26 (dk_at dksX1_made_0 0 rfl rfl)
theorem dX1_made_1 : decode cX1_made 1 = .ok (.tableswitch 66 1 3 #[27, 40, 53], 27) := by decide +kernel
theorem dX1_made_28 : decode cX1_made 28 = .ok (.new 1, 3) := dk_187 0 1 (dk_at dksX1_made_2 0 rfl rfl)
theorem dX1_made_31 : decode cX1_made 31 = .ok (.dup, 1) := dk_89 (dk_at dksX1_made_2 3 rfl rfl)
theorem dX1_made_32 : decode cX1_made 32 = .ok (.iload_n 1, 1) := dk_27 (dk_at dksX1_made_2 4 rfl rfl)
theorem dX1_made_33 : decode cX1_made 33 = .ok (.iload_n 2, 1) := dk_28 (dk_at dksX1_made_2 5 rfl rfl)
theorem dX1_made_34 : decode cX1_made 34 = .ok (.iload_n 3, 1) := dk_29 (dk_at dksX1_made_2 6 rfl rfl)
theorem dX1_made_35 : decode cX1_made 35 = .ok (.aload 4, 2) := dk_25 4 (dk_at dksX1_made_2 7 rfl rfl)
theorem dX1_made_37 : decode cX1_made 37 = .ok (.invokespecial 3, 3) := dk_183 0 3 (dk_at dksX1_made_2 9 rfl rfl)
theorem dX1_made_40 : decode cX1_made 40 = .ok (.areturn, 1) := dk_176 (dk_at dksX1_made_2 12 rfl rfl)
theorem dX1_made_41 : decode cX1_made 41 = .ok (.new 7, 3) := dk_187 0 7 (dk_at dksX1_made_2 13 rfl rfl)
theorem dX1_made_44 : decode cX1_made 44 = .ok (.dup, 1) := dk_89 (dk_at dksX1_made_2 16 rfl rfl)
theorem dX1_made_45 : decode cX1_made 45 = .ok (.iload_n 1, 1) := dk_27 (dk_at dksX1_made_2 17 rfl rfl)
theorem dX1_made_46 : decode cX1_made 46 = .ok (.iload_n 2, 1) := dk_28 (dk_at dksX1_made_2 18 rfl rfl)
theorem dX1_made_47 : decode cX1_made 47 = .ok (.iload_n 3, 1) := dk_29 (dk_at dksX1_made_2 19 rfl rfl)
theorem dX1_made_48 : decode cX1_made 48 = .ok (.aload 4, 2) := dk_25 4 (dk_at dksX1_made_2 20 rfl rfl)
theorem dX1_made_50 : decode cX1_made 50 = .ok (.invokespecial 9, 3) := dk_183 0 9 (dk_at dksX1_made_3 0 rfl rfl)
theorem dX1_made_53 : decode cX1_made 53 = .ok (.areturn, 1) := dk_176 (dk_at dksX1_made_3 3 rfl rfl)
theorem dX1_made_54 : decode cX1_made 54 = .ok (.new 10, 3) := dk_187 0 10 (dk_at dksX1_made_3 4 rfl rfl)
theorem dX1_made_57 : decode cX1_made 57 = .ok (.dup, 1) := dk_89 (dk_at dksX1_made_3 7 rfl rfl)
theorem dX1_made_58 : decode cX1_made 58 = .ok (.iload_n 1, 1) := dk_27 (dk_at dksX1_made_3 8 rfl rfl)
theorem dX1_made_59 : decode cX1_made 59 = .ok (.iload_n 2, 1) := dk_28 (dk_at dksX1_made_3 9 rfl rfl)
theorem dX1_made_60 : decode cX1_made 60 = .ok (.iload_n 3, 1) := dk_29 (dk_at dksX1_made_3 10 rfl rfl)
theorem dX1_made_61 : decode cX1_made 61 = .ok (.aload 4, 2) := dk_25 4 (dk_at dksX1_made_3 11 rfl rfl)
theorem dX1_made_63 : decode cX1_made 63 = .ok (.invokespecial 12, 3) := dk_183 0 12 (dk_at dksX1_made_3 13 rfl rfl)
theorem dX1_made_66 : decode cX1_made 66 = .ok (.areturn, 1) := dk_176 (dk_at dksX1_made_3 16 rfl rfl)
theorem dX1_made_67 : decode cX1_made 67 = .ok (.new 13, 3) := dk_187 0 13 (dk_at dksX1_made_3 17 rfl rfl)
theorem dX1_made_70 : decode cX1_made 70 = .ok (.dup, 1) := dk_89 (dk_at dksX1_made_3 20 rfl rfl)
theorem dX1_made_71 : decode cX1_made 71 = .ok (.iload_n 1, 1) := dk_27 (dk_at dksX1_made_3 21 rfl rfl)
theorem dX1_made_72 : decode cX1_made 72 = .ok (.iload_n 2, 1) := dk_28 (dk_at dksX1_made_3 22 rfl rfl)
theorem dX1_made_73 : decode cX1_made 73 = .ok (.iload_n 3, 1) := dk_29 (dk_at dksX1_made_3 23 rfl rfl)
theorem dX1_made_74 : decode cX1_made 74 = .ok (.aload 4, 2) := dk_25 4 (dk_at dksX1_made_4 0 rfl rfl)
theorem dX1_made_76 : decode cX1_made 76 = .ok (.invokespecial 15, 3) := dk_183 0 15 (dk_at dksX1_made_4 2 rfl rfl)
theorem dX1_made_79 : decode cX1_made 79 = .ok (.areturn, 1) := dk_176 (dk_at dksX1_made_4 5 rfl rfl)
def dkwX1_has_0 : List UInt8 := [26, 27, 122, 4, 126, 4, 160, 0, 7, 4, 167, 0, 4, 3, 172]
abbrev dktX1_has_0 : List UInt8 := dkwX1_has_0 ++ []
theorem dksX1_has_0 : cX1_has.data.toList.drop 0 = dktX1_has_0 := by decide +kernel
theorem dX1_has_0 : decode cX1_has 0 = .ok (.iload_n 0, 1) := dk_26 (dk_at dksX1_has_0 0 rfl rfl)
theorem dX1_has_1 : decode cX1_has 1 = .ok (.iload_n 1, 1) := dk_27 (dk_at dksX1_has_0 1 rfl rfl)
theorem dX1_has_2 : decode cX1_has 2 = .ok (.ishr, 1) := dk_122 (dk_at dksX1_has_0 2 rfl rfl)
theorem dX1_has_3 : decode cX1_has 3 = .ok (.iconst 1, 1) := dk_4 (dk_at dksX1_has_0 3 rfl rfl)
theorem dX1_has_4 : decode cX1_has 4 = .ok (.iand, 1) := dk_126 (dk_at dksX1_has_0 4 rfl rfl)
theorem dX1_has_5 : decode cX1_has 5 = .ok (.iconst 1, 1) := dk_4 (dk_at dksX1_has_0 5 rfl rfl)
theorem dX1_has_6 : decode cX1_has 6 = .ok (.if_icmp .ne 7, 3) := dk_160 0 7 (dk_at dksX1_has_0 6 rfl rfl)
theorem dX1_has_9 : decode cX1_has 9 = .ok (.iconst 1, 1) := dk_4 (dk_at dksX1_has_0 9 rfl rfl)
theorem dX1_has_10 : decode cX1_has 10 = .ok (.goto 4, 3) := dk_167 0 4 (dk_at dksX1_has_0 10 rfl rfl)
theorem dX1_has_13 : decode cX1_has 13 = .ok (.iconst 0, 1) := dk_3 (dk_at dksX1_has_0 13 rfl rfl)
theorem dX1_has_14 : decode cX1_has 14 = .ok (.ireturn, 1) := dk_172 (dk_at dksX1_has_0 14 rfl rfl)
def dkwX1_day_0 : List UInt8 := [42, 42, 180, 0, 24, 42, 182, 0, 112, 182, 0, 115, 181, 0, 52, 3, 172, 76, 43, 180, 0, 109, 172]
abbrev dktX1_day_0 : List UInt8 := dkwX1_day_0 ++ []
theorem dksX1_day_0 : cX1_day.data.toList.drop 0 = dktX1_day_0 := by decide +kernel
theorem dX1_day_0 : decode cX1_day 0 = .ok (.aload_n 0, 1) := dk_42 (dk_at dksX1_day_0 0 rfl rfl)
theorem dX1_day_1 : decode cX1_day 1 = .ok (.aload_n 0, 1) := dk_42 (dk_at dksX1_day_0 1 rfl rfl)
theorem dX1_day_2 : decode cX1_day 2 = .ok (.getfield 24, 3) := dk_180 0 24 (dk_at dksX1_day_0 2 rfl rfl)
theorem dX1_day_5 : decode cX1_day 5 = .ok (.aload_n 0, 1) := dk_42 (dk_at dksX1_day_0 5 rfl rfl)
theorem dX1_day_6 : decode cX1_day 6 = .ok (.invokevirtual 112, 3) := dk_182 0 112 (dk_at dksX1_day_0 6 rfl rfl)
theorem dX1_day_9 : decode cX1_day 9 = .ok (.invokevirtual 115, 3) := dk_182 0 115 (dk_at dksX1_day_0 9 rfl rfl)
theorem dX1_day_12 : decode cX1_day 12 = .ok (.putfield 52, 3) := dk_181 0 52 (dk_at dksX1_day_0 12 rfl rfl)
theorem dX1_day_15 : decode cX1_day 15 = .ok (.iconst 0, 1) := dk_3 (dk_at dksX1_day_0 15 rfl rfl)
theorem dX1_day_16 : decode cX1_day 16 = .ok (.ireturn, 1) := dk_172 (dk_at dksX1_day_0 16 rfl rfl)
theorem dX1_day_17 : decode cX1_day 17 = .ok (.astore_n 1, 1) := dk_76 (dk_at dksX1_day_0 17 rfl rfl)
theorem dX1_day_18 : decode cX1_day 18 = .ok (.aload_n 1, 1) := dk_43 (dk_at dksX1_day_0 18 rfl rfl)
theorem dX1_day_19 : decode cX1_day 19 = .ok (.getfield 109, 3) := dk_180 0 109 (dk_at dksX1_day_0 19 rfl rfl)
theorem dX1_day_22 : decode cX1_day 22 = .ok (.ireturn, 1) := dk_172 (dk_at dksX1_day_0 22 rfl rfl)
def dkwX1_now_0 : List UInt8 := [42, 180, 0, 40, 180, 0, 119, 176]
abbrev dktX1_now_0 : List UInt8 := dkwX1_now_0 ++ []
theorem dksX1_now_0 : cX1_now.data.toList.drop 0 = dktX1_now_0 := by decide +kernel
theorem dX1_now_0 : decode cX1_now 0 = .ok (.aload_n 0, 1) := dk_42 (dk_at dksX1_now_0 0 rfl rfl)
theorem dX1_now_1 : decode cX1_now 1 = .ok (.getfield 40, 3) := dk_180 0 40 (dk_at dksX1_now_0 1 rfl rfl)
theorem dX1_now_4 : decode cX1_now 4 = .ok (.getfield 119, 3) := dk_180 0 119 (dk_at dksX1_now_0 4 rfl rfl)
theorem dX1_now_7 : decode cX1_now 7 = .ok (.areturn, 1) := dk_176 (dk_at dksX1_now_0 7 rfl rfl)
def dkwX1_person_3 : List UInt8 := [172, 42, 180, 0, 40, 180, 0, 170, 27, 184, 0, 147, 153, 0, 7, 4, 167, 0, 4, 3, 172, 16, 254, 172]
abbrev dktX1_person_3 : List UInt8 := dkwX1_person_3 ++ []
def dkwX1_person_2 : List UInt8 := [45, 182, 0, 158, 172, 42, 180, 0, 40, 180, 0, 161, 27, 46, 172, 45, 180, 0, 165, 172, 45, 180, 0, 168]
abbrev dktX1_person_2 : List UInt8 := dkwX1_person_2 ++ dktX1_person_3
def dkwX1_person_1 : List UInt8 := [170, 0, 0, 0, 0, 0, 80, 0, 0, 0, 0, 0, 0, 0, 4, 0, 0, 0, 35, 0, 0, 0, 40, 0, 0, 0, 50, 0, 0, 0, 55, 0, 0, 0, 60]
abbrev dktX1_person_1 : List UInt8 := dkwX1_person_1 ++ dktX1_person_2
def dkwX1_person_0 : List UInt8 := [42, 27, 182, 0, 151, 154, 0, 6, 16, 254, 172, 42, 180, 0, 40, 27, 182, 0, 154, 78, 28]
abbrev dktX1_person_0 : List UInt8 := dkwX1_person_0 ++ dktX1_person_1
theorem dksX1_person_0 : cX1_person.data.toList.drop 0 = dktX1_person_0 := by decide +kernel
theorem dksX1_person_1 : cX1_person.data.toList.drop 21 = dktX1_person_1 := dk_seg dksX1_person_0 21 rfl rfl
theorem dksX1_person_2 : cX1_person.data.toList.drop 56 = dktX1_person_2 := dk_seg dksX1_person_1 35 rfl rfl
theorem dksX1_person_3 : cX1_person.data.toList.drop 80 = dktX1_person_3 := dk_seg dksX1_person_2 24 rfl rfl
theorem dX1_person_0 : decode cX1_person 0 = .ok (.aload_n 0, 1) := dk_42 (dk_at dksX1_person_0 0 rfl rfl)
theorem dX1_person_1 : decode cX1_person 1 = .ok (.iload_n 1, 1) := dk_27 (dk_at dksX1_person_0 1 rfl rfl)
theorem dX1_person_2 : decode cX1_person 2 = .ok (.invokevirtual 151, 3) := dk_182 0 151 (dk_at dksX1_person_0 2 rfl rfl)
theorem dX1_person_5 : decode cX1_person 5 = .ok (.ifCond .ne 6, 3) := dk_154 0 6 (dk_at dksX1_person_0 5 rfl rfl)
theorem dX1_person_8 : decode cX1_person 8 = .ok (.bipush (-2), 2) := dk_16 254 (dk_at dksX1_person_0 8 rfl rfl)
theorem dX1_person_10 : decode cX1_person 10 = .ok (.ireturn, 1) := dk_172 (dk_at dksX1_person_0 10 rfl rfl)
theorem dX1_person_11 : decode cX1_person 11 = .ok (.aload_n 0, 1) := dk_42 (dk_at dksX1_person_0 11 rfl rfl)
theorem dX1_person_12 : decode cX1_person 12 = .ok (.getfield 40, 3) := dk_180 0 40 (dk_at dksX1_person_0 12 rfl rfl)
theorem dX1_person_15 : decode cX1_person 15 = .ok (.iload_n 1, 1) := dk_27 (dk_at dksX1_person_0 15 rfl rfl)
theorem dX1_person_16 : decode cX1_person 16 = .ok (.invokevirtual 154, 3) := dk_182 0 154 (dk_at dksX1_person_0 16 rfl rfl)
theorem dX1_person_19 : decode cX1_person 19 = .ok (.astore_n 3, 1) := dk_78 (dk_at dksX1_person_0 19 rfl rfl)
theorem dX1_person_20 : decode cX1_person 20 = .ok (.iload_n 2, 1) := dk_28 (dk_at dksX1_person_0 20 rfl rfl)
theorem dX1_person_21 : decode cX1_person 21 = .ok (.tableswitch 80 0 4 #[35, 40, 50, 55, 60], 35) := by decide +kernel
theorem dX1_person_56 : decode cX1_person 56 = .ok (.aload_n 3, 1) := dk_45 (dk_at dksX1_person_2 0 rfl rfl)
theorem dX1_person_57 : decode cX1_person 57 = .ok (.invokevirtual 158, 3) := dk_182 0 158 (dk_at dksX1_person_2 1 rfl rfl)
theorem dX1_person_60 : decode cX1_person 60 = .ok (.ireturn, 1) := dk_172 (dk_at dksX1_person_2 4 rfl rfl)
theorem dX1_person_61 : decode cX1_person 61 = .ok (.aload_n 0, 1) := dk_42 (dk_at dksX1_person_2 5 rfl rfl)
theorem dX1_person_62 : decode cX1_person 62 = .ok (.getfield 40, 3) := dk_180 0 40 (dk_at dksX1_person_2 6 rfl rfl)
theorem dX1_person_65 : decode cX1_person 65 = .ok (.getfield 161, 3) := dk_180 0 161 (dk_at dksX1_person_2 9 rfl rfl)
theorem dX1_person_68 : decode cX1_person 68 = .ok (.iload_n 1, 1) := dk_27 (dk_at dksX1_person_2 12 rfl rfl)
theorem dX1_person_69 : decode cX1_person 69 = .ok (.iaload, 1) := dk_46 (dk_at dksX1_person_2 13 rfl rfl)
theorem dX1_person_70 : decode cX1_person 70 = .ok (.ireturn, 1) := dk_172 (dk_at dksX1_person_2 14 rfl rfl)
theorem dX1_person_71 : decode cX1_person 71 = .ok (.aload_n 3, 1) := dk_45 (dk_at dksX1_person_2 15 rfl rfl)
theorem dX1_person_72 : decode cX1_person 72 = .ok (.getfield 165, 3) := dk_180 0 165 (dk_at dksX1_person_2 16 rfl rfl)
theorem dX1_person_75 : decode cX1_person 75 = .ok (.ireturn, 1) := dk_172 (dk_at dksX1_person_2 19 rfl rfl)
theorem dX1_person_76 : decode cX1_person 76 = .ok (.aload_n 3, 1) := dk_45 (dk_at dksX1_person_2 20 rfl rfl)
theorem dX1_person_77 : decode cX1_person 77 = .ok (.getfield 168, 3) := dk_180 0 168 (dk_at dksX1_person_2 21 rfl rfl)
theorem dX1_person_80 : decode cX1_person 80 = .ok (.ireturn, 1) := dk_172 (dk_at dksX1_person_3 0 rfl rfl)
theorem dX1_person_81 : decode cX1_person 81 = .ok (.aload_n 0, 1) := dk_42 (dk_at dksX1_person_3 1 rfl rfl)
theorem dX1_person_82 : decode cX1_person 82 = .ok (.getfield 40, 3) := dk_180 0 40 (dk_at dksX1_person_3 2 rfl rfl)
theorem dX1_person_85 : decode cX1_person 85 = .ok (.getfield 170, 3) := dk_180 0 170 (dk_at dksX1_person_3 5 rfl rfl)
theorem dX1_person_88 : decode cX1_person 88 = .ok (.iload_n 1, 1) := dk_27 (dk_at dksX1_person_3 8 rfl rfl)
theorem dX1_person_89 : decode cX1_person 89 = .ok (.invokestatic 147, 3) := dk_184 0 147 (dk_at dksX1_person_3 9 rfl rfl)
theorem dX1_person_92 : decode cX1_person 92 = .ok (.ifCond .eq 7, 3) := dk_153 0 7 (dk_at dksX1_person_3 12 rfl rfl)
theorem dX1_person_95 : decode cX1_person 95 = .ok (.iconst 1, 1) := dk_4 (dk_at dksX1_person_3 15 rfl rfl)
theorem dX1_person_96 : decode cX1_person 96 = .ok (.goto 4, 3) := dk_167 0 4 (dk_at dksX1_person_3 16 rfl rfl)
theorem dX1_person_99 : decode cX1_person 99 = .ok (.iconst 0, 1) := dk_3 (dk_at dksX1_person_3 19 rfl rfl)
theorem dX1_person_100 : decode cX1_person 100 = .ok (.ireturn, 1) := dk_172 (dk_at dksX1_person_3 20 rfl rfl)
theorem dX1_person_101 : decode cX1_person 101 = .ok (.bipush (-2), 2) := dk_16 254 (dk_at dksX1_person_3 21 rfl rfl)
theorem dX1_person_103 : decode cX1_person 103 = .ok (.ireturn, 1) := dk_172 (dk_at dksX1_person_3 23 rfl rfl)
def dkwX1_isPerson_0 : List UInt8 := [27, 3, 42, 182, 0, 132, 4, 100, 184, 0, 134, 172]
abbrev dktX1_isPerson_0 : List UInt8 := dkwX1_isPerson_0 ++ []
theorem dksX1_isPerson_0 : cX1_isPerson.data.toList.drop 0 = dktX1_isPerson_0 := by decide +kernel
theorem dX1_isPerson_0 : decode cX1_isPerson 0 = .ok (.iload_n 1, 1) := dk_27 (dk_at dksX1_isPerson_0 0 rfl rfl)
theorem dX1_isPerson_1 : decode cX1_isPerson 1 = .ok (.iconst 0, 1) := dk_3 (dk_at dksX1_isPerson_0 1 rfl rfl)
theorem dX1_isPerson_2 : decode cX1_isPerson 2 = .ok (.aload_n 0, 1) := dk_42 (dk_at dksX1_isPerson_0 2 rfl rfl)
theorem dX1_isPerson_3 : decode cX1_isPerson 3 = .ok (.invokevirtual 132, 3) := dk_182 0 132 (dk_at dksX1_isPerson_0 3 rfl rfl)
theorem dX1_isPerson_6 : decode cX1_isPerson 6 = .ok (.iconst 1, 1) := dk_4 (dk_at dksX1_isPerson_0 6 rfl rfl)
theorem dX1_isPerson_7 : decode cX1_isPerson 7 = .ok (.isub, 1) := dk_100 (dk_at dksX1_isPerson_0 7 rfl rfl)
theorem dX1_isPerson_8 : decode cX1_isPerson 8 = .ok (.invokestatic 134, 3) := dk_184 0 134 (dk_at dksX1_isPerson_0 8 rfl rfl)
theorem dX1_isPerson_11 : decode cX1_isPerson 11 = .ok (.ireturn, 1) := dk_172 (dk_at dksX1_isPerson_0 11 rfl rfl)
def dkwX1_people_0 : List UInt8 := [42, 182, 0, 112, 180, 0, 122, 182, 0, 125, 172]
abbrev dktX1_people_0 : List UInt8 := dkwX1_people_0 ++ []
theorem dksX1_people_0 : cX1_people.data.toList.drop 0 = dktX1_people_0 := by decide +kernel
theorem dX1_people_0 : decode cX1_people 0 = .ok (.aload_n 0, 1) := dk_42 (dk_at dksX1_people_0 0 rfl rfl)
theorem dX1_people_1 : decode cX1_people 1 = .ok (.invokevirtual 112, 3) := dk_182 0 112 (dk_at dksX1_people_0 1 rfl rfl)
theorem dX1_people_4 : decode cX1_people 4 = .ok (.getfield 122, 3) := dk_180 0 122 (dk_at dksX1_people_0 4 rfl rfl)
theorem dX1_people_7 : decode cX1_people 7 = .ok (.invokevirtual 125, 3) := dk_182 0 125 (dk_at dksX1_people_0 7 rfl rfl)
theorem dX1_people_10 : decode cX1_people 10 = .ok (.ireturn, 1) := dk_172 (dk_at dksX1_people_0 10 rfl rfl)
def dkwX1_scout_5 : List UInt8 := [46, 182, 0, 182, 153, 0, 7, 4, 167, 0, 4, 3, 172, 16, 254, 172]
abbrev dktX1_scout_5 : List UInt8 := dkwX1_scout_5 ++ []
def dkwX1_scout_4 : List UInt8 := [3, 172, 42, 180, 0, 40, 180, 0, 179, 27, 46, 172, 42, 182, 0, 112, 42, 180, 0, 40, 180, 0, 173, 27]
abbrev dktX1_scout_4 : List UInt8 := dkwX1_scout_4 ++ dktX1_scout_5
def dkwX1_scout_3 : List UInt8 := [4, 167, 0, 4, 3, 172, 42, 180, 0, 40, 180, 0, 144, 27, 184, 0, 147, 153, 0, 7, 4, 167, 0, 4]
abbrev dktX1_scout_3 : List UInt8 := dkwX1_scout_3 ++ dktX1_scout_4
def dkwX1_scout_2 : List UInt8 := [42, 180, 0, 40, 180, 0, 173, 27, 46, 172, 42, 180, 0, 40, 180, 0, 176, 27, 184, 0, 147, 153, 0, 7]
abbrev dktX1_scout_2 : List UInt8 := dkwX1_scout_2 ++ dktX1_scout_3
def dkwX1_scout_1 : List UInt8 := [170, 0, 0, 0, 0, 0, 0, 121, 0, 0, 0, 0, 0, 0, 0, 4, 0, 0, 0, 36, 0, 0, 0, 46, 0, 0, 0, 66, 0, 0, 0, 86, 0, 0, 0, 96]
abbrev dktX1_scout_1 : List UInt8 := dkwX1_scout_1 ++ dktX1_scout_2
def dkwX1_scout_0 : List UInt8 := [42, 27, 182, 0, 140, 154, 0, 6, 16, 254, 172, 28]
abbrev dktX1_scout_0 : List UInt8 := dkwX1_scout_0 ++ dktX1_scout_1
theorem dksX1_scout_0 : cX1_scout.data.toList.drop 0 = dktX1_scout_0 := by decide +kernel
theorem dksX1_scout_1 : cX1_scout.data.toList.drop 12 = dktX1_scout_1 := dk_seg dksX1_scout_0 12 rfl rfl
theorem dksX1_scout_2 : cX1_scout.data.toList.drop 48 = dktX1_scout_2 := dk_seg dksX1_scout_1 36 rfl rfl
theorem dksX1_scout_3 : cX1_scout.data.toList.drop 72 = dktX1_scout_3 := dk_seg dksX1_scout_2 24 rfl rfl
theorem dksX1_scout_4 : cX1_scout.data.toList.drop 96 = dktX1_scout_4 := dk_seg dksX1_scout_3 24 rfl rfl
theorem dksX1_scout_5 : cX1_scout.data.toList.drop 120 = dktX1_scout_5 := dk_seg dksX1_scout_4 24 rfl rfl
theorem dX1_scout_0 : decode cX1_scout 0 = .ok (.aload_n 0, 1) := dk_42 (dk_at dksX1_scout_0 0 rfl rfl)
theorem dX1_scout_1 : decode cX1_scout 1 = .ok (.iload_n 1, 1) := dk_27 (dk_at dksX1_scout_0 1 rfl rfl)
theorem dX1_scout_2 : decode cX1_scout 2 = .ok (.invokevirtual 140, 3) := dk_182 0 140 (dk_at dksX1_scout_0 2 rfl rfl)
theorem dX1_scout_5 : decode cX1_scout 5 = .ok (.ifCond .ne 6, 3) := dk_154 0 6 (dk_at dksX1_scout_0 5 rfl rfl)
theorem dX1_scout_8 : decode cX1_scout 8 = .ok (.bipush (-2), 2) := dk_16 254 (dk_at dksX1_scout_0 8 rfl rfl)
theorem dX1_scout_10 : decode cX1_scout 10 = .ok (.ireturn, 1) := dk_172 (dk_at dksX1_scout_0 10 rfl rfl)
theorem dX1_scout_11 : decode cX1_scout 11 = .ok (.iload_n 2, 1) := dk_28 (dk_at dksX1_scout_0 11 rfl rfl)
theorem dX1_scout_12 : decode cX1_scout 12 = .ok (.tableswitch 121 0 4 #[36, 46, 66, 86, 96], 36) := by decide +kernel
theorem dX1_scout_48 : decode cX1_scout 48 = .ok (.aload_n 0, 1) := dk_42 (dk_at dksX1_scout_2 0 rfl rfl)
theorem dX1_scout_49 : decode cX1_scout 49 = .ok (.getfield 40, 3) := dk_180 0 40 (dk_at dksX1_scout_2 1 rfl rfl)
theorem dX1_scout_52 : decode cX1_scout 52 = .ok (.getfield 173, 3) := dk_180 0 173 (dk_at dksX1_scout_2 4 rfl rfl)
theorem dX1_scout_55 : decode cX1_scout 55 = .ok (.iload_n 1, 1) := dk_27 (dk_at dksX1_scout_2 7 rfl rfl)
theorem dX1_scout_56 : decode cX1_scout 56 = .ok (.iaload, 1) := dk_46 (dk_at dksX1_scout_2 8 rfl rfl)
theorem dX1_scout_57 : decode cX1_scout 57 = .ok (.ireturn, 1) := dk_172 (dk_at dksX1_scout_2 9 rfl rfl)
theorem dX1_scout_58 : decode cX1_scout 58 = .ok (.aload_n 0, 1) := dk_42 (dk_at dksX1_scout_2 10 rfl rfl)
theorem dX1_scout_59 : decode cX1_scout 59 = .ok (.getfield 40, 3) := dk_180 0 40 (dk_at dksX1_scout_2 11 rfl rfl)
theorem dX1_scout_62 : decode cX1_scout 62 = .ok (.getfield 176, 3) := dk_180 0 176 (dk_at dksX1_scout_2 14 rfl rfl)
theorem dX1_scout_65 : decode cX1_scout 65 = .ok (.iload_n 1, 1) := dk_27 (dk_at dksX1_scout_2 17 rfl rfl)
theorem dX1_scout_66 : decode cX1_scout 66 = .ok (.invokestatic 147, 3) := dk_184 0 147 (dk_at dksX1_scout_2 18 rfl rfl)
theorem dX1_scout_69 : decode cX1_scout 69 = .ok (.ifCond .eq 7, 3) := dk_153 0 7 (dk_at dksX1_scout_2 21 rfl rfl)
theorem dX1_scout_72 : decode cX1_scout 72 = .ok (.iconst 1, 1) := dk_4 (dk_at dksX1_scout_3 0 rfl rfl)
theorem dX1_scout_73 : decode cX1_scout 73 = .ok (.goto 4, 3) := dk_167 0 4 (dk_at dksX1_scout_3 1 rfl rfl)
theorem dX1_scout_76 : decode cX1_scout 76 = .ok (.iconst 0, 1) := dk_3 (dk_at dksX1_scout_3 4 rfl rfl)
theorem dX1_scout_77 : decode cX1_scout 77 = .ok (.ireturn, 1) := dk_172 (dk_at dksX1_scout_3 5 rfl rfl)
theorem dX1_scout_78 : decode cX1_scout 78 = .ok (.aload_n 0, 1) := dk_42 (dk_at dksX1_scout_3 6 rfl rfl)
theorem dX1_scout_79 : decode cX1_scout 79 = .ok (.getfield 40, 3) := dk_180 0 40 (dk_at dksX1_scout_3 7 rfl rfl)
theorem dX1_scout_82 : decode cX1_scout 82 = .ok (.getfield 144, 3) := dk_180 0 144 (dk_at dksX1_scout_3 10 rfl rfl)
theorem dX1_scout_85 : decode cX1_scout 85 = .ok (.iload_n 1, 1) := dk_27 (dk_at dksX1_scout_3 13 rfl rfl)
theorem dX1_scout_86 : decode cX1_scout 86 = .ok (.invokestatic 147, 3) := dk_184 0 147 (dk_at dksX1_scout_3 14 rfl rfl)
theorem dX1_scout_89 : decode cX1_scout 89 = .ok (.ifCond .eq 7, 3) := dk_153 0 7 (dk_at dksX1_scout_3 17 rfl rfl)
theorem dX1_scout_92 : decode cX1_scout 92 = .ok (.iconst 1, 1) := dk_4 (dk_at dksX1_scout_3 20 rfl rfl)
theorem dX1_scout_93 : decode cX1_scout 93 = .ok (.goto 4, 3) := dk_167 0 4 (dk_at dksX1_scout_3 21 rfl rfl)
theorem dX1_scout_96 : decode cX1_scout 96 = .ok (.iconst 0, 1) := dk_3 (dk_at dksX1_scout_4 0 rfl rfl)
theorem dX1_scout_97 : decode cX1_scout 97 = .ok (.ireturn, 1) := dk_172 (dk_at dksX1_scout_4 1 rfl rfl)
theorem dX1_scout_98 : decode cX1_scout 98 = .ok (.aload_n 0, 1) := dk_42 (dk_at dksX1_scout_4 2 rfl rfl)
theorem dX1_scout_99 : decode cX1_scout 99 = .ok (.getfield 40, 3) := dk_180 0 40 (dk_at dksX1_scout_4 3 rfl rfl)
theorem dX1_scout_102 : decode cX1_scout 102 = .ok (.getfield 179, 3) := dk_180 0 179 (dk_at dksX1_scout_4 6 rfl rfl)
theorem dX1_scout_105 : decode cX1_scout 105 = .ok (.iload_n 1, 1) := dk_27 (dk_at dksX1_scout_4 9 rfl rfl)
theorem dX1_scout_106 : decode cX1_scout 106 = .ok (.iaload, 1) := dk_46 (dk_at dksX1_scout_4 10 rfl rfl)
theorem dX1_scout_107 : decode cX1_scout 107 = .ok (.ireturn, 1) := dk_172 (dk_at dksX1_scout_4 11 rfl rfl)
theorem dX1_scout_108 : decode cX1_scout 108 = .ok (.aload_n 0, 1) := dk_42 (dk_at dksX1_scout_4 12 rfl rfl)
theorem dX1_scout_109 : decode cX1_scout 109 = .ok (.invokevirtual 112, 3) := dk_182 0 112 (dk_at dksX1_scout_4 13 rfl rfl)
theorem dX1_scout_112 : decode cX1_scout 112 = .ok (.aload_n 0, 1) := dk_42 (dk_at dksX1_scout_4 16 rfl rfl)
theorem dX1_scout_113 : decode cX1_scout 113 = .ok (.getfield 40, 3) := dk_180 0 40 (dk_at dksX1_scout_4 17 rfl rfl)
theorem dX1_scout_116 : decode cX1_scout 116 = .ok (.getfield 173, 3) := dk_180 0 173 (dk_at dksX1_scout_4 20 rfl rfl)
theorem dX1_scout_119 : decode cX1_scout 119 = .ok (.iload_n 1, 1) := dk_27 (dk_at dksX1_scout_4 23 rfl rfl)
theorem dX1_scout_120 : decode cX1_scout 120 = .ok (.iaload, 1) := dk_46 (dk_at dksX1_scout_5 0 rfl rfl)
theorem dX1_scout_121 : decode cX1_scout 121 = .ok (.invokevirtual 182, 3) := dk_182 0 182 (dk_at dksX1_scout_5 1 rfl rfl)
theorem dX1_scout_124 : decode cX1_scout 124 = .ok (.ifCond .eq 7, 3) := dk_153 0 7 (dk_at dksX1_scout_5 4 rfl rfl)
theorem dX1_scout_127 : decode cX1_scout 127 = .ok (.iconst 1, 1) := dk_4 (dk_at dksX1_scout_5 7 rfl rfl)
theorem dX1_scout_128 : decode cX1_scout 128 = .ok (.goto 4, 3) := dk_167 0 4 (dk_at dksX1_scout_5 8 rfl rfl)
theorem dX1_scout_131 : decode cX1_scout 131 = .ok (.iconst 0, 1) := dk_3 (dk_at dksX1_scout_5 11 rfl rfl)
theorem dX1_scout_132 : decode cX1_scout 132 = .ok (.ireturn, 1) := dk_172 (dk_at dksX1_scout_5 12 rfl rfl)
theorem dX1_scout_133 : decode cX1_scout 133 = .ok (.bipush (-2), 2) := dk_16 254 (dk_at dksX1_scout_5 13 rfl rfl)
theorem dX1_scout_135 : decode cX1_scout 135 = .ok (.ireturn, 1) := dk_172 (dk_at dksX1_scout_5 15 rfl rfl)
def dkwX1_isScout_0 : List UInt8 := [27, 3, 42, 182, 0, 138, 4, 100, 184, 0, 134, 172]
abbrev dktX1_isScout_0 : List UInt8 := dkwX1_isScout_0 ++ []
theorem dksX1_isScout_0 : cX1_isScout.data.toList.drop 0 = dktX1_isScout_0 := by decide +kernel
theorem dX1_isScout_0 : decode cX1_isScout 0 = .ok (.iload_n 1, 1) := dk_27 (dk_at dksX1_isScout_0 0 rfl rfl)
theorem dX1_isScout_1 : decode cX1_isScout 1 = .ok (.iconst 0, 1) := dk_3 (dk_at dksX1_isScout_0 1 rfl rfl)
theorem dX1_isScout_2 : decode cX1_isScout 2 = .ok (.aload_n 0, 1) := dk_42 (dk_at dksX1_isScout_0 2 rfl rfl)
theorem dX1_isScout_3 : decode cX1_isScout 3 = .ok (.invokevirtual 138, 3) := dk_182 0 138 (dk_at dksX1_isScout_0 3 rfl rfl)
theorem dX1_isScout_6 : decode cX1_isScout 6 = .ok (.iconst 1, 1) := dk_4 (dk_at dksX1_isScout_0 6 rfl rfl)
theorem dX1_isScout_7 : decode cX1_isScout 7 = .ok (.isub, 1) := dk_100 (dk_at dksX1_isScout_0 7 rfl rfl)
theorem dX1_isScout_8 : decode cX1_isScout 8 = .ok (.invokestatic 134, 3) := dk_184 0 134 (dk_at dksX1_isScout_0 8 rfl rfl)
theorem dX1_isScout_11 : decode cX1_isScout 11 = .ok (.ireturn, 1) := dk_172 (dk_at dksX1_isScout_0 11 rfl rfl)
def dkwX1_scouts_0 : List UInt8 := [42, 182, 0, 112, 180, 0, 129, 182, 0, 125, 172]
abbrev dktX1_scouts_0 : List UInt8 := dkwX1_scouts_0 ++ []
theorem dksX1_scouts_0 : cX1_scouts.data.toList.drop 0 = dktX1_scouts_0 := by decide +kernel
theorem dX1_scouts_0 : decode cX1_scouts 0 = .ok (.aload_n 0, 1) := dk_42 (dk_at dksX1_scouts_0 0 rfl rfl)
theorem dX1_scouts_1 : decode cX1_scouts 1 = .ok (.invokevirtual 112, 3) := dk_182 0 112 (dk_at dksX1_scouts_0 1 rfl rfl)
theorem dX1_scouts_4 : decode cX1_scouts 4 = .ok (.getfield 129, 3) := dk_180 0 129 (dk_at dksX1_scouts_0 4 rfl rfl)
theorem dX1_scouts_7 : decode cX1_scouts 7 = .ok (.invokevirtual 125, 3) := dk_182 0 125 (dk_at dksX1_scouts_0 7 rfl rfl)
theorem dX1_scouts_10 : decode cX1_scouts 10 = .ok (.ireturn, 1) := dk_172 (dk_at dksX1_scouts_0 10 rfl rfl)
def dkwX1_creep_2 : List UInt8 := [180, 0, 40, 180, 0, 173, 27, 46, 172]
abbrev dktX1_creep_2 : List UInt8 := dkwX1_creep_2 ++ []
def dkwX1_creep_1 : List UInt8 := [182, 0, 197, 154, 0, 5, 2, 172, 42, 182, 0, 200, 42, 180, 0, 40, 27, 28, 182, 0, 203, 42]
abbrev dktX1_creep_1 : List UInt8 := dkwX1_creep_1 ++ dktX1_creep_2
def dkwX1_creep_0 : List UInt8 := [42, 27, 182, 0, 140, 153, 0, 24, 28, 4, 7, 184, 0, 134, 153, 0, 15, 42, 180, 0, 40, 27, 28]
abbrev dktX1_creep_0 : List UInt8 := dkwX1_creep_0 ++ dktX1_creep_1
theorem dksX1_creep_0 : cX1_creep.data.toList.drop 0 = dktX1_creep_0 := by decide +kernel
theorem dksX1_creep_1 : cX1_creep.data.toList.drop 23 = dktX1_creep_1 := dk_seg dksX1_creep_0 23 rfl rfl
theorem dksX1_creep_2 : cX1_creep.data.toList.drop 45 = dktX1_creep_2 := dk_seg dksX1_creep_1 22 rfl rfl
theorem dX1_creep_0 : decode cX1_creep 0 = .ok (.aload_n 0, 1) := dk_42 (dk_at dksX1_creep_0 0 rfl rfl)
theorem dX1_creep_1 : decode cX1_creep 1 = .ok (.iload_n 1, 1) := dk_27 (dk_at dksX1_creep_0 1 rfl rfl)
theorem dX1_creep_2 : decode cX1_creep 2 = .ok (.invokevirtual 140, 3) := dk_182 0 140 (dk_at dksX1_creep_0 2 rfl rfl)
theorem dX1_creep_5 : decode cX1_creep 5 = .ok (.ifCond .eq 24, 3) := dk_153 0 24 (dk_at dksX1_creep_0 5 rfl rfl)
theorem dX1_creep_8 : decode cX1_creep 8 = .ok (.iload_n 2, 1) := dk_28 (dk_at dksX1_creep_0 8 rfl rfl)
theorem dX1_creep_9 : decode cX1_creep 9 = .ok (.iconst 1, 1) := dk_4 (dk_at dksX1_creep_0 9 rfl rfl)
theorem dX1_creep_10 : decode cX1_creep 10 = .ok (.iconst 4, 1) := dk_7 (dk_at dksX1_creep_0 10 rfl rfl)
theorem dX1_creep_11 : decode cX1_creep 11 = .ok (.invokestatic 134, 3) := dk_184 0 134 (dk_at dksX1_creep_0 11 rfl rfl)
theorem dX1_creep_14 : decode cX1_creep 14 = .ok (.ifCond .eq 15, 3) := dk_153 0 15 (dk_at dksX1_creep_0 14 rfl rfl)
theorem dX1_creep_17 : decode cX1_creep 17 = .ok (.aload_n 0, 1) := dk_42 (dk_at dksX1_creep_0 17 rfl rfl)
theorem dX1_creep_18 : decode cX1_creep 18 = .ok (.getfield 40, 3) := dk_180 0 40 (dk_at dksX1_creep_0 18 rfl rfl)
theorem dX1_creep_21 : decode cX1_creep 21 = .ok (.iload_n 1, 1) := dk_27 (dk_at dksX1_creep_0 21 rfl rfl)
theorem dX1_creep_22 : decode cX1_creep 22 = .ok (.iload_n 2, 1) := dk_28 (dk_at dksX1_creep_0 22 rfl rfl)
theorem dX1_creep_23 : decode cX1_creep 23 = .ok (.invokevirtual 197, 3) := dk_182 0 197 (dk_at dksX1_creep_1 0 rfl rfl)
theorem dX1_creep_26 : decode cX1_creep 26 = .ok (.ifCond .ne 5, 3) := dk_154 0 5 (dk_at dksX1_creep_1 3 rfl rfl)
theorem dX1_creep_29 : decode cX1_creep 29 = .ok (.iconst (-1), 1) := dk_2 (dk_at dksX1_creep_1 6 rfl rfl)
theorem dX1_creep_30 : decode cX1_creep 30 = .ok (.ireturn, 1) := dk_172 (dk_at dksX1_creep_1 7 rfl rfl)
theorem dX1_creep_31 : decode cX1_creep 31 = .ok (.aload_n 0, 1) := dk_42 (dk_at dksX1_creep_1 8 rfl rfl)
theorem dX1_creep_32 : decode cX1_creep 32 = .ok (.invokevirtual 200, 3) := dk_182 0 200 (dk_at dksX1_creep_1 9 rfl rfl)
theorem dX1_creep_35 : decode cX1_creep 35 = .ok (.aload_n 0, 1) := dk_42 (dk_at dksX1_creep_1 12 rfl rfl)
theorem dX1_creep_36 : decode cX1_creep 36 = .ok (.getfield 40, 3) := dk_180 0 40 (dk_at dksX1_creep_1 13 rfl rfl)
theorem dX1_creep_39 : decode cX1_creep 39 = .ok (.iload_n 1, 1) := dk_27 (dk_at dksX1_creep_1 16 rfl rfl)
theorem dX1_creep_40 : decode cX1_creep 40 = .ok (.iload_n 2, 1) := dk_28 (dk_at dksX1_creep_1 17 rfl rfl)
theorem dX1_creep_41 : decode cX1_creep 41 = .ok (.invokevirtual 203, 3) := dk_182 0 203 (dk_at dksX1_creep_1 18 rfl rfl)
theorem dX1_creep_44 : decode cX1_creep 44 = .ok (.aload_n 0, 1) := dk_42 (dk_at dksX1_creep_1 21 rfl rfl)
theorem dX1_creep_45 : decode cX1_creep 45 = .ok (.getfield 40, 3) := dk_180 0 40 (dk_at dksX1_creep_2 0 rfl rfl)
theorem dX1_creep_48 : decode cX1_creep 48 = .ok (.getfield 173, 3) := dk_180 0 173 (dk_at dksX1_creep_2 3 rfl rfl)
theorem dX1_creep_51 : decode cX1_creep 51 = .ok (.iload_n 1, 1) := dk_27 (dk_at dksX1_creep_2 6 rfl rfl)
theorem dX1_creep_52 : decode cX1_creep 52 = .ok (.iaload, 1) := dk_46 (dk_at dksX1_creep_2 7 rfl rfl)
theorem dX1_creep_53 : decode cX1_creep 53 = .ok (.ireturn, 1) := dk_172 (dk_at dksX1_creep_2 8 rfl rfl)
def dkwX1_keep_1 : List UInt8 := [180, 0, 60, 42, 180, 0, 40, 182, 0, 189, 182, 0, 193, 87, 177]
abbrev dktX1_keep_1 : List UInt8 := dkwX1_keep_1 ++ []
def dkwX1_keep_0 : List UInt8 := [42, 180, 0, 60, 182, 0, 125, 16, 16, 160, 0, 12, 42, 180, 0, 60, 3, 182, 0, 185, 87, 42]
abbrev dktX1_keep_0 : List UInt8 := dkwX1_keep_0 ++ dktX1_keep_1
theorem dksX1_keep_0 : cX1_keep.data.toList.drop 0 = dktX1_keep_0 := by decide +kernel
theorem dksX1_keep_1 : cX1_keep.data.toList.drop 22 = dktX1_keep_1 := dk_seg dksX1_keep_0 22 rfl rfl
theorem dX1_keep_0 : decode cX1_keep 0 = .ok (.aload_n 0, 1) := dk_42 (dk_at dksX1_keep_0 0 rfl rfl)
theorem dX1_keep_1 : decode cX1_keep 1 = .ok (.getfield 60, 3) := dk_180 0 60 (dk_at dksX1_keep_0 1 rfl rfl)
theorem dX1_keep_4 : decode cX1_keep 4 = .ok (.invokevirtual 125, 3) := dk_182 0 125 (dk_at dksX1_keep_0 4 rfl rfl)
theorem dX1_keep_7 : decode cX1_keep 7 = .ok (.bipush 16, 2) := dk_16 16 (dk_at dksX1_keep_0 7 rfl rfl)
theorem dX1_keep_9 : decode cX1_keep 9 = .ok (.if_icmp .ne 12, 3) := dk_160 0 12 (dk_at dksX1_keep_0 9 rfl rfl)
theorem dX1_keep_12 : decode cX1_keep 12 = .ok (.aload_n 0, 1) := dk_42 (dk_at dksX1_keep_0 12 rfl rfl)
theorem dX1_keep_13 : decode cX1_keep 13 = .ok (.getfield 60, 3) := dk_180 0 60 (dk_at dksX1_keep_0 13 rfl rfl)
theorem dX1_keep_16 : decode cX1_keep 16 = .ok (.iconst 0, 1) := dk_3 (dk_at dksX1_keep_0 16 rfl rfl)
theorem dX1_keep_17 : decode cX1_keep 17 = .ok (.invokevirtual 185, 3) := dk_182 0 185 (dk_at dksX1_keep_0 17 rfl rfl)
theorem dX1_keep_20 : decode cX1_keep 20 = .ok (.pop, 1) := dk_87 (dk_at dksX1_keep_0 20 rfl rfl)
theorem dX1_keep_21 : decode cX1_keep 21 = .ok (.aload_n 0, 1) := dk_42 (dk_at dksX1_keep_0 21 rfl rfl)
theorem dX1_keep_22 : decode cX1_keep 22 = .ok (.getfield 60, 3) := dk_180 0 60 (dk_at dksX1_keep_1 0 rfl rfl)
theorem dX1_keep_25 : decode cX1_keep 25 = .ok (.aload_n 0, 1) := dk_42 (dk_at dksX1_keep_1 3 rfl rfl)
theorem dX1_keep_26 : decode cX1_keep 26 = .ok (.getfield 40, 3) := dk_180 0 40 (dk_at dksX1_keep_1 4 rfl rfl)
theorem dX1_keep_29 : decode cX1_keep 29 = .ok (.invokevirtual 189, 3) := dk_182 0 189 (dk_at dksX1_keep_1 7 rfl rfl)
theorem dX1_keep_32 : decode cX1_keep 32 = .ok (.invokevirtual 193, 3) := dk_182 0 193 (dk_at dksX1_keep_1 10 rfl rfl)
theorem dX1_keep_35 : decode cX1_keep 35 = .ok (.pop, 1) := dk_87 (dk_at dksX1_keep_1 13 rfl rfl)
theorem dX1_keep_36 : decode cX1_keep 36 = .ok (.return_, 1) := dk_177 (dk_at dksX1_keep_1 14 rfl rfl)
def dkwX1_off_1 : List UInt8 := [120, 128, 181, 0, 144, 4, 172]
abbrev dktX1_off_1 : List UInt8 := dkwX1_off_1 ++ []
def dkwX1_off_0 : List UInt8 := [42, 27, 182, 0, 207, 154, 0, 5, 3, 172, 42, 182, 0, 200, 42, 180, 0, 40, 89, 180, 0, 144, 4, 27]
abbrev dktX1_off_0 : List UInt8 := dkwX1_off_0 ++ dktX1_off_1
theorem dksX1_off_0 : cX1_off.data.toList.drop 0 = dktX1_off_0 := by decide +kernel
theorem dksX1_off_1 : cX1_off.data.toList.drop 24 = dktX1_off_1 := dk_seg dksX1_off_0 24 rfl rfl
theorem dX1_off_0 : decode cX1_off 0 = .ok (.aload_n 0, 1) := dk_42 (dk_at dksX1_off_0 0 rfl rfl)
theorem dX1_off_1 : decode cX1_off 1 = .ok (.iload_n 1, 1) := dk_27 (dk_at dksX1_off_0 1 rfl rfl)
theorem dX1_off_2 : decode cX1_off 2 = .ok (.invokevirtual 207, 3) := dk_182 0 207 (dk_at dksX1_off_0 2 rfl rfl)
theorem dX1_off_5 : decode cX1_off 5 = .ok (.ifCond .ne 5, 3) := dk_154 0 5 (dk_at dksX1_off_0 5 rfl rfl)
theorem dX1_off_8 : decode cX1_off 8 = .ok (.iconst 0, 1) := dk_3 (dk_at dksX1_off_0 8 rfl rfl)
theorem dX1_off_9 : decode cX1_off 9 = .ok (.ireturn, 1) := dk_172 (dk_at dksX1_off_0 9 rfl rfl)
theorem dX1_off_10 : decode cX1_off 10 = .ok (.aload_n 0, 1) := dk_42 (dk_at dksX1_off_0 10 rfl rfl)
theorem dX1_off_11 : decode cX1_off 11 = .ok (.invokevirtual 200, 3) := dk_182 0 200 (dk_at dksX1_off_0 11 rfl rfl)
theorem dX1_off_14 : decode cX1_off 14 = .ok (.aload_n 0, 1) := dk_42 (dk_at dksX1_off_0 14 rfl rfl)
theorem dX1_off_15 : decode cX1_off 15 = .ok (.getfield 40, 3) := dk_180 0 40 (dk_at dksX1_off_0 15 rfl rfl)
theorem dX1_off_18 : decode cX1_off 18 = .ok (.dup, 1) := dk_89 (dk_at dksX1_off_0 18 rfl rfl)
theorem dX1_off_19 : decode cX1_off 19 = .ok (.getfield 144, 3) := dk_180 0 144 (dk_at dksX1_off_0 19 rfl rfl)
theorem dX1_off_22 : decode cX1_off 22 = .ok (.iconst 1, 1) := dk_4 (dk_at dksX1_off_0 22 rfl rfl)
theorem dX1_off_23 : decode cX1_off 23 = .ok (.iload_n 1, 1) := dk_27 (dk_at dksX1_off_0 23 rfl rfl)
theorem dX1_off_24 : decode cX1_off 24 = .ok (.ishl, 1) := dk_120 (dk_at dksX1_off_1 0 rfl rfl)
theorem dX1_off_25 : decode cX1_off 25 = .ok (.ior, 1) := dk_128 (dk_at dksX1_off_1 1 rfl rfl)
theorem dX1_off_26 : decode cX1_off 26 = .ok (.putfield 144, 3) := dk_181 0 144 (dk_at dksX1_off_1 2 rfl rfl)
theorem dX1_off_29 : decode cX1_off 29 = .ok (.iconst 1, 1) := dk_4 (dk_at dksX1_off_1 5 rfl rfl)
theorem dX1_off_30 : decode cX1_off 30 = .ok (.ireturn, 1) := dk_172 (dk_at dksX1_off_1 6 rfl rfl)
def dkwX1_isOut_1 : List UInt8 := [167, 0, 4, 3, 172]
abbrev dktX1_isOut_1 : List UInt8 := dkwX1_isOut_1 ++ []
def dkwX1_isOut_0 : List UInt8 := [42, 27, 182, 0, 140, 153, 0, 21, 42, 180, 0, 40, 180, 0, 144, 27, 184, 0, 147, 154, 0, 7, 4]
abbrev dktX1_isOut_0 : List UInt8 := dkwX1_isOut_0 ++ dktX1_isOut_1
theorem dksX1_isOut_0 : cX1_isOut.data.toList.drop 0 = dktX1_isOut_0 := by decide +kernel
theorem dksX1_isOut_1 : cX1_isOut.data.toList.drop 23 = dktX1_isOut_1 := dk_seg dksX1_isOut_0 23 rfl rfl
theorem dX1_isOut_0 : decode cX1_isOut 0 = .ok (.aload_n 0, 1) := dk_42 (dk_at dksX1_isOut_0 0 rfl rfl)
theorem dX1_isOut_1 : decode cX1_isOut 1 = .ok (.iload_n 1, 1) := dk_27 (dk_at dksX1_isOut_0 1 rfl rfl)
theorem dX1_isOut_2 : decode cX1_isOut 2 = .ok (.invokevirtual 140, 3) := dk_182 0 140 (dk_at dksX1_isOut_0 2 rfl rfl)
theorem dX1_isOut_5 : decode cX1_isOut 5 = .ok (.ifCond .eq 21, 3) := dk_153 0 21 (dk_at dksX1_isOut_0 5 rfl rfl)
theorem dX1_isOut_8 : decode cX1_isOut 8 = .ok (.aload_n 0, 1) := dk_42 (dk_at dksX1_isOut_0 8 rfl rfl)
theorem dX1_isOut_9 : decode cX1_isOut 9 = .ok (.getfield 40, 3) := dk_180 0 40 (dk_at dksX1_isOut_0 9 rfl rfl)
theorem dX1_isOut_12 : decode cX1_isOut 12 = .ok (.getfield 144, 3) := dk_180 0 144 (dk_at dksX1_isOut_0 12 rfl rfl)
theorem dX1_isOut_15 : decode cX1_isOut 15 = .ok (.iload_n 1, 1) := dk_27 (dk_at dksX1_isOut_0 15 rfl rfl)
theorem dX1_isOut_16 : decode cX1_isOut 16 = .ok (.invokestatic 147, 3) := dk_184 0 147 (dk_at dksX1_isOut_0 16 rfl rfl)
theorem dX1_isOut_19 : decode cX1_isOut 19 = .ok (.ifCond .ne 7, 3) := dk_154 0 7 (dk_at dksX1_isOut_0 19 rfl rfl)
theorem dX1_isOut_22 : decode cX1_isOut 22 = .ok (.iconst 1, 1) := dk_4 (dk_at dksX1_isOut_0 22 rfl rfl)
theorem dX1_isOut_23 : decode cX1_isOut 23 = .ok (.goto 4, 3) := dk_167 0 4 (dk_at dksX1_isOut_1 0 rfl rfl)
theorem dX1_isOut_26 : decode cX1_isOut 26 = .ok (.iconst 0, 1) := dk_3 (dk_at dksX1_isOut_1 3 rfl rfl)
theorem dX1_isOut_27 : decode cX1_isOut 27 = .ok (.ireturn, 1) := dk_172 (dk_at dksX1_isOut_1 4 rfl rfl)
def dkwX1_step_0 : List UInt8 := [42, 182, 0, 200, 42, 180, 0, 40, 182, 0, 210, 172]
abbrev dktX1_step_0 : List UInt8 := dkwX1_step_0 ++ []
theorem dksX1_step_0 : cX1_step.data.toList.drop 0 = dktX1_step_0 := by decide +kernel
theorem dX1_step_0 : decode cX1_step 0 = .ok (.aload_n 0, 1) := dk_42 (dk_at dksX1_step_0 0 rfl rfl)
theorem dX1_step_1 : decode cX1_step 1 = .ok (.invokevirtual 200, 3) := dk_182 0 200 (dk_at dksX1_step_0 1 rfl rfl)
theorem dX1_step_4 : decode cX1_step 4 = .ok (.aload_n 0, 1) := dk_42 (dk_at dksX1_step_0 4 rfl rfl)
theorem dX1_step_5 : decode cX1_step 5 = .ok (.getfield 40, 3) := dk_180 0 40 (dk_at dksX1_step_0 5 rfl rfl)
theorem dX1_step_8 : decode cX1_step 8 = .ok (.invokevirtual 210, 3) := dk_182 0 210 (dk_at dksX1_step_0 8 rfl rfl)
theorem dX1_step_11 : decode cX1_step 11 = .ok (.ireturn, 1) := dk_172 (dk_at dksX1_step_0 11 rfl rfl)
def dkwX1_undo_1 : List UInt8 := [4, 100, 182, 0, 185, 192, 0, 30, 181, 0, 40, 4, 172]
abbrev dktX1_undo_1 : List UInt8 := dkwX1_undo_1 ++ []
def dkwX1_undo_0 : List UInt8 := [42, 180, 0, 60, 182, 0, 213, 153, 0, 5, 3, 172, 42, 42, 180, 0, 60, 42, 180, 0, 60, 182, 0, 125]
abbrev dktX1_undo_0 : List UInt8 := dkwX1_undo_0 ++ dktX1_undo_1
theorem dksX1_undo_0 : cX1_undo.data.toList.drop 0 = dktX1_undo_0 := by decide +kernel
theorem dksX1_undo_1 : cX1_undo.data.toList.drop 24 = dktX1_undo_1 := dk_seg dksX1_undo_0 24 rfl rfl
theorem dX1_undo_0 : decode cX1_undo 0 = .ok (.aload_n 0, 1) := dk_42 (dk_at dksX1_undo_0 0 rfl rfl)
theorem dX1_undo_1 : decode cX1_undo 1 = .ok (.getfield 60, 3) := dk_180 0 60 (dk_at dksX1_undo_0 1 rfl rfl)
theorem dX1_undo_4 : decode cX1_undo 4 = .ok (.invokevirtual 213, 3) := dk_182 0 213 (dk_at dksX1_undo_0 4 rfl rfl)
theorem dX1_undo_7 : decode cX1_undo 7 = .ok (.ifCond .eq 5, 3) := dk_153 0 5 (dk_at dksX1_undo_0 7 rfl rfl)
theorem dX1_undo_10 : decode cX1_undo 10 = .ok (.iconst 0, 1) := dk_3 (dk_at dksX1_undo_0 10 rfl rfl)
theorem dX1_undo_11 : decode cX1_undo 11 = .ok (.ireturn, 1) := dk_172 (dk_at dksX1_undo_0 11 rfl rfl)
theorem dX1_undo_12 : decode cX1_undo 12 = .ok (.aload_n 0, 1) := dk_42 (dk_at dksX1_undo_0 12 rfl rfl)
theorem dX1_undo_13 : decode cX1_undo 13 = .ok (.aload_n 0, 1) := dk_42 (dk_at dksX1_undo_0 13 rfl rfl)
theorem dX1_undo_14 : decode cX1_undo 14 = .ok (.getfield 60, 3) := dk_180 0 60 (dk_at dksX1_undo_0 14 rfl rfl)
theorem dX1_undo_17 : decode cX1_undo 17 = .ok (.aload_n 0, 1) := dk_42 (dk_at dksX1_undo_0 17 rfl rfl)
theorem dX1_undo_18 : decode cX1_undo 18 = .ok (.getfield 60, 3) := dk_180 0 60 (dk_at dksX1_undo_0 18 rfl rfl)
theorem dX1_undo_21 : decode cX1_undo 21 = .ok (.invokevirtual 125, 3) := dk_182 0 125 (dk_at dksX1_undo_0 21 rfl rfl)
theorem dX1_undo_24 : decode cX1_undo 24 = .ok (.iconst 1, 1) := dk_4 (dk_at dksX1_undo_1 0 rfl rfl)
theorem dX1_undo_25 : decode cX1_undo 25 = .ok (.isub, 1) := dk_100 (dk_at dksX1_undo_1 1 rfl rfl)
theorem dX1_undo_26 : decode cX1_undo 26 = .ok (.invokevirtual 185, 3) := dk_182 0 185 (dk_at dksX1_undo_1 2 rfl rfl)
theorem dX1_undo_29 : decode cX1_undo 29 = .ok (.checkcast 30, 3) := dk_192 0 30 (dk_at dksX1_undo_1 5 rfl rfl)
theorem dX1_undo_32 : decode cX1_undo 32 = .ok (.putfield 40, 3) := dk_181 0 40 (dk_at dksX1_undo_1 8 rfl rfl)
theorem dX1_undo_35 : decode cX1_undo 35 = .ok (.iconst 1, 1) := dk_4 (dk_at dksX1_undo_1 11 rfl rfl)
theorem dX1_undo_36 : decode cX1_undo 36 = .ok (.ireturn, 1) := dk_172 (dk_at dksX1_undo_1 12 rfl rfl)
def dkwX1_judged_5 : List UInt8 := [160, 0, 7, 29, 167, 0, 10, 42, 180, 0, 44, 180, 0, 226, 172]
abbrev dktX1_judged_5 : List UInt8 := dkwX1_judged_5 ++ []
def dkwX1_judged_4 : List UInt8 := [21, 5, 159, 0, 6, 21, 4, 62, 132, 4, 1, 167, 255, 182, 27, 154, 0, 7, 28, 167, 0, 19, 27, 4]
abbrev dktX1_judged_4 : List UInt8 := dkwX1_judged_4 ++ dktX1_judged_5
def dkwX1_judged_3 : List UInt8 := [154, 0, 11, 28, 2, 160, 0, 6, 21, 4, 61, 29, 2, 160, 0, 18, 42, 180, 0, 44, 180, 0, 170]
abbrev dktX1_judged_3 : List UInt8 := dkwX1_judged_3 ++ dktX1_judged_4
def dkwX1_judged_2 : List UInt8 := [180, 0, 170, 54, 5, 42, 180, 0, 52, 21, 4, 182, 0, 217, 192, 0, 220, 42, 180, 0, 44, 182, 0, 222]
abbrev dktX1_judged_2 : List UInt8 := dkwX1_judged_2 ++ dktX1_judged_3
def dkwX1_judged_1 : List UInt8 := [2, 61, 2, 62, 3, 54, 4, 21, 4, 42, 180, 0, 52, 182, 0, 125, 162, 0, 68, 42, 180, 0, 44]
abbrev dktX1_judged_1 : List UInt8 := dkwX1_judged_1 ++ dktX1_judged_2
def dkwX1_judged_0 : List UInt8 := [27, 3, 5, 184, 0, 134, 154, 0, 6, 16, 254, 172, 42, 180, 0, 44, 42, 182, 0, 112, 182, 0, 36, 87]
abbrev dktX1_judged_0 : List UInt8 := dkwX1_judged_0 ++ dktX1_judged_1
theorem dksX1_judged_0 : cX1_judged.data.toList.drop 0 = dktX1_judged_0 := by decide +kernel
theorem dksX1_judged_1 : cX1_judged.data.toList.drop 24 = dktX1_judged_1 := dk_seg dksX1_judged_0 24 rfl rfl
theorem dksX1_judged_2 : cX1_judged.data.toList.drop 47 = dktX1_judged_2 := dk_seg dksX1_judged_1 23 rfl rfl
theorem dksX1_judged_3 : cX1_judged.data.toList.drop 71 = dktX1_judged_3 := dk_seg dksX1_judged_2 24 rfl rfl
theorem dksX1_judged_4 : cX1_judged.data.toList.drop 94 = dktX1_judged_4 := dk_seg dksX1_judged_3 23 rfl rfl
theorem dksX1_judged_5 : cX1_judged.data.toList.drop 118 = dktX1_judged_5 := dk_seg dksX1_judged_4 24 rfl rfl
theorem dX1_judged_0 : decode cX1_judged 0 = .ok (.iload_n 1, 1) := dk_27 (dk_at dksX1_judged_0 0 rfl rfl)
theorem dX1_judged_1 : decode cX1_judged 1 = .ok (.iconst 0, 1) := dk_3 (dk_at dksX1_judged_0 1 rfl rfl)
theorem dX1_judged_2 : decode cX1_judged 2 = .ok (.iconst 2, 1) := dk_5 (dk_at dksX1_judged_0 2 rfl rfl)
theorem dX1_judged_3 : decode cX1_judged 3 = .ok (.invokestatic 134, 3) := dk_184 0 134 (dk_at dksX1_judged_0 3 rfl rfl)
theorem dX1_judged_6 : decode cX1_judged 6 = .ok (.ifCond .ne 6, 3) := dk_154 0 6 (dk_at dksX1_judged_0 6 rfl rfl)
theorem dX1_judged_9 : decode cX1_judged 9 = .ok (.bipush (-2), 2) := dk_16 254 (dk_at dksX1_judged_0 9 rfl rfl)
theorem dX1_judged_11 : decode cX1_judged 11 = .ok (.ireturn, 1) := dk_172 (dk_at dksX1_judged_0 11 rfl rfl)
theorem dX1_judged_12 : decode cX1_judged 12 = .ok (.aload_n 0, 1) := dk_42 (dk_at dksX1_judged_0 12 rfl rfl)
theorem dX1_judged_13 : decode cX1_judged 13 = .ok (.getfield 44, 3) := dk_180 0 44 (dk_at dksX1_judged_0 13 rfl rfl)
theorem dX1_judged_16 : decode cX1_judged 16 = .ok (.aload_n 0, 1) := dk_42 (dk_at dksX1_judged_0 16 rfl rfl)
theorem dX1_judged_17 : decode cX1_judged 17 = .ok (.invokevirtual 112, 3) := dk_182 0 112 (dk_at dksX1_judged_0 17 rfl rfl)
theorem dX1_judged_20 : decode cX1_judged 20 = .ok (.invokevirtual 36, 3) := dk_182 0 36 (dk_at dksX1_judged_0 20 rfl rfl)
theorem dX1_judged_23 : decode cX1_judged 23 = .ok (.pop, 1) := dk_87 (dk_at dksX1_judged_0 23 rfl rfl)
theorem dX1_judged_24 : decode cX1_judged 24 = .ok (.iconst (-1), 1) := dk_2 (dk_at dksX1_judged_1 0 rfl rfl)
theorem dX1_judged_25 : decode cX1_judged 25 = .ok (.istore_n 2, 1) := dk_61 (dk_at dksX1_judged_1 1 rfl rfl)
theorem dX1_judged_26 : decode cX1_judged 26 = .ok (.iconst (-1), 1) := dk_2 (dk_at dksX1_judged_1 2 rfl rfl)
theorem dX1_judged_27 : decode cX1_judged 27 = .ok (.istore_n 3, 1) := dk_62 (dk_at dksX1_judged_1 3 rfl rfl)
theorem dX1_judged_28 : decode cX1_judged 28 = .ok (.iconst 0, 1) := dk_3 (dk_at dksX1_judged_1 4 rfl rfl)
theorem dX1_judged_29 : decode cX1_judged 29 = .ok (.istore 4, 2) := dk_54 4 (dk_at dksX1_judged_1 5 rfl rfl)
theorem dX1_judged_31 : decode cX1_judged 31 = .ok (.iload 4, 2) := dk_21 4 (dk_at dksX1_judged_1 7 rfl rfl)
theorem dX1_judged_33 : decode cX1_judged 33 = .ok (.aload_n 0, 1) := dk_42 (dk_at dksX1_judged_1 9 rfl rfl)
theorem dX1_judged_34 : decode cX1_judged 34 = .ok (.getfield 52, 3) := dk_180 0 52 (dk_at dksX1_judged_1 10 rfl rfl)
theorem dX1_judged_37 : decode cX1_judged 37 = .ok (.invokevirtual 125, 3) := dk_182 0 125 (dk_at dksX1_judged_1 13 rfl rfl)
theorem dX1_judged_40 : decode cX1_judged 40 = .ok (.if_icmp .ge 68, 3) := dk_162 0 68 (dk_at dksX1_judged_1 16 rfl rfl)
theorem dX1_judged_43 : decode cX1_judged 43 = .ok (.aload_n 0, 1) := dk_42 (dk_at dksX1_judged_1 19 rfl rfl)
theorem dX1_judged_44 : decode cX1_judged 44 = .ok (.getfield 44, 3) := dk_180 0 44 (dk_at dksX1_judged_1 20 rfl rfl)
theorem dX1_judged_47 : decode cX1_judged 47 = .ok (.getfield 170, 3) := dk_180 0 170 (dk_at dksX1_judged_2 0 rfl rfl)
theorem dX1_judged_50 : decode cX1_judged 50 = .ok (.istore 5, 2) := dk_54 5 (dk_at dksX1_judged_2 3 rfl rfl)
theorem dX1_judged_52 : decode cX1_judged 52 = .ok (.aload_n 0, 1) := dk_42 (dk_at dksX1_judged_2 5 rfl rfl)
theorem dX1_judged_53 : decode cX1_judged 53 = .ok (.getfield 52, 3) := dk_180 0 52 (dk_at dksX1_judged_2 6 rfl rfl)
theorem dX1_judged_56 : decode cX1_judged 56 = .ok (.iload 4, 2) := dk_21 4 (dk_at dksX1_judged_2 9 rfl rfl)
theorem dX1_judged_58 : decode cX1_judged 58 = .ok (.invokevirtual 217, 3) := dk_182 0 217 (dk_at dksX1_judged_2 11 rfl rfl)
theorem dX1_judged_61 : decode cX1_judged 61 = .ok (.checkcast 220, 3) := dk_192 0 220 (dk_at dksX1_judged_2 14 rfl rfl)
theorem dX1_judged_64 : decode cX1_judged 64 = .ok (.aload_n 0, 1) := dk_42 (dk_at dksX1_judged_2 17 rfl rfl)
theorem dX1_judged_65 : decode cX1_judged 65 = .ok (.getfield 44, 3) := dk_180 0 44 (dk_at dksX1_judged_2 18 rfl rfl)
theorem dX1_judged_68 : decode cX1_judged 68 = .ok (.invokevirtual 222, 3) := dk_182 0 222 (dk_at dksX1_judged_2 21 rfl rfl)
theorem dX1_judged_71 : decode cX1_judged 71 = .ok (.ifCond .ne 11, 3) := dk_154 0 11 (dk_at dksX1_judged_3 0 rfl rfl)
theorem dX1_judged_74 : decode cX1_judged 74 = .ok (.iload_n 2, 1) := dk_28 (dk_at dksX1_judged_3 3 rfl rfl)
theorem dX1_judged_75 : decode cX1_judged 75 = .ok (.iconst (-1), 1) := dk_2 (dk_at dksX1_judged_3 4 rfl rfl)
theorem dX1_judged_76 : decode cX1_judged 76 = .ok (.if_icmp .ne 6, 3) := dk_160 0 6 (dk_at dksX1_judged_3 5 rfl rfl)
theorem dX1_judged_79 : decode cX1_judged 79 = .ok (.iload 4, 2) := dk_21 4 (dk_at dksX1_judged_3 8 rfl rfl)
theorem dX1_judged_81 : decode cX1_judged 81 = .ok (.istore_n 2, 1) := dk_61 (dk_at dksX1_judged_3 10 rfl rfl)
theorem dX1_judged_82 : decode cX1_judged 82 = .ok (.iload_n 3, 1) := dk_29 (dk_at dksX1_judged_3 11 rfl rfl)
theorem dX1_judged_83 : decode cX1_judged 83 = .ok (.iconst (-1), 1) := dk_2 (dk_at dksX1_judged_3 12 rfl rfl)
theorem dX1_judged_84 : decode cX1_judged 84 = .ok (.if_icmp .ne 18, 3) := dk_160 0 18 (dk_at dksX1_judged_3 13 rfl rfl)
theorem dX1_judged_87 : decode cX1_judged 87 = .ok (.aload_n 0, 1) := dk_42 (dk_at dksX1_judged_3 16 rfl rfl)
theorem dX1_judged_88 : decode cX1_judged 88 = .ok (.getfield 44, 3) := dk_180 0 44 (dk_at dksX1_judged_3 17 rfl rfl)
theorem dX1_judged_91 : decode cX1_judged 91 = .ok (.getfield 170, 3) := dk_180 0 170 (dk_at dksX1_judged_3 20 rfl rfl)
theorem dX1_judged_94 : decode cX1_judged 94 = .ok (.iload 5, 2) := dk_21 5 (dk_at dksX1_judged_4 0 rfl rfl)
theorem dX1_judged_96 : decode cX1_judged 96 = .ok (.if_icmp .eq 6, 3) := dk_159 0 6 (dk_at dksX1_judged_4 2 rfl rfl)
theorem dX1_judged_99 : decode cX1_judged 99 = .ok (.iload 4, 2) := dk_21 4 (dk_at dksX1_judged_4 5 rfl rfl)
theorem dX1_judged_101 : decode cX1_judged 101 = .ok (.istore_n 3, 1) := dk_62 (dk_at dksX1_judged_4 7 rfl rfl)
theorem dX1_judged_102 : decode cX1_judged 102 = .ok (.iinc 4 1, 3) := dk_132 4 1 (dk_at dksX1_judged_4 8 rfl rfl)
theorem dX1_judged_105 : decode cX1_judged 105 = .ok (.goto (-74), 3) := dk_167 255 182 (dk_at dksX1_judged_4 11 rfl rfl)
theorem dX1_judged_108 : decode cX1_judged 108 = .ok (.iload_n 1, 1) := dk_27 (dk_at dksX1_judged_4 14 rfl rfl)
theorem dX1_judged_109 : decode cX1_judged 109 = .ok (.ifCond .ne 7, 3) := dk_154 0 7 (dk_at dksX1_judged_4 15 rfl rfl)
theorem dX1_judged_112 : decode cX1_judged 112 = .ok (.iload_n 2, 1) := dk_28 (dk_at dksX1_judged_4 18 rfl rfl)
theorem dX1_judged_113 : decode cX1_judged 113 = .ok (.goto 19, 3) := dk_167 0 19 (dk_at dksX1_judged_4 19 rfl rfl)
theorem dX1_judged_116 : decode cX1_judged 116 = .ok (.iload_n 1, 1) := dk_27 (dk_at dksX1_judged_4 22 rfl rfl)
theorem dX1_judged_117 : decode cX1_judged 117 = .ok (.iconst 1, 1) := dk_4 (dk_at dksX1_judged_4 23 rfl rfl)
theorem dX1_judged_118 : decode cX1_judged 118 = .ok (.if_icmp .ne 7, 3) := dk_160 0 7 (dk_at dksX1_judged_5 0 rfl rfl)
theorem dX1_judged_121 : decode cX1_judged 121 = .ok (.iload_n 3, 1) := dk_29 (dk_at dksX1_judged_5 3 rfl rfl)
theorem dX1_judged_122 : decode cX1_judged 122 = .ok (.goto 10, 3) := dk_167 0 10 (dk_at dksX1_judged_5 4 rfl rfl)
theorem dX1_judged_125 : decode cX1_judged 125 = .ok (.aload_n 0, 1) := dk_42 (dk_at dksX1_judged_5 7 rfl rfl)
theorem dX1_judged_126 : decode cX1_judged 126 = .ok (.getfield 44, 3) := dk_180 0 44 (dk_at dksX1_judged_5 8 rfl rfl)
theorem dX1_judged_129 : decode cX1_judged 129 = .ok (.getfield 226, 3) := dk_180 0 226 (dk_at dksX1_judged_5 11 rfl rfl)
theorem dX1_judged_132 : decode cX1_judged 132 = .ok (.ireturn, 1) := dk_172 (dk_at dksX1_judged_5 14 rfl rfl)
def dkwX1_later_2 : List UInt8 := [132, 3, 1, 167, 255, 240, 42, 180, 0, 44, 180, 0, 161, 27, 46, 172]
abbrev dktX1_later_2 : List UInt8 := dkwX1_later_2 ++ []
def dkwX1_later_1 : List UInt8 := [42, 180, 0, 40, 182, 0, 227, 87, 3, 62, 29, 28, 162, 0, 17, 42, 180, 0, 44, 182, 0, 210, 87]
abbrev dktX1_later_1 : List UInt8 := dkwX1_later_1 ++ dktX1_later_2
def dkwX1_later_0 : List UInt8 := [42, 27, 182, 0, 151, 153, 0, 13, 28, 3, 16, 40, 184, 0, 134, 154, 0, 5, 2, 172, 42, 180, 0, 44]
abbrev dktX1_later_0 : List UInt8 := dkwX1_later_0 ++ dktX1_later_1
theorem dksX1_later_0 : cX1_later.data.toList.drop 0 = dktX1_later_0 := by decide +kernel
theorem dksX1_later_1 : cX1_later.data.toList.drop 24 = dktX1_later_1 := dk_seg dksX1_later_0 24 rfl rfl
theorem dksX1_later_2 : cX1_later.data.toList.drop 47 = dktX1_later_2 := dk_seg dksX1_later_1 23 rfl rfl
theorem dX1_later_0 : decode cX1_later 0 = .ok (.aload_n 0, 1) := dk_42 (dk_at dksX1_later_0 0 rfl rfl)
theorem dX1_later_1 : decode cX1_later 1 = .ok (.iload_n 1, 1) := dk_27 (dk_at dksX1_later_0 1 rfl rfl)
theorem dX1_later_2 : decode cX1_later 2 = .ok (.invokevirtual 151, 3) := dk_182 0 151 (dk_at dksX1_later_0 2 rfl rfl)
theorem dX1_later_5 : decode cX1_later 5 = .ok (.ifCond .eq 13, 3) := dk_153 0 13 (dk_at dksX1_later_0 5 rfl rfl)
theorem dX1_later_8 : decode cX1_later 8 = .ok (.iload_n 2, 1) := dk_28 (dk_at dksX1_later_0 8 rfl rfl)
theorem dX1_later_9 : decode cX1_later 9 = .ok (.iconst 0, 1) := dk_3 (dk_at dksX1_later_0 9 rfl rfl)
theorem dX1_later_10 : decode cX1_later 10 = .ok (.bipush 40, 2) := dk_16 40 (dk_at dksX1_later_0 10 rfl rfl)
theorem dX1_later_12 : decode cX1_later 12 = .ok (.invokestatic 134, 3) := dk_184 0 134 (dk_at dksX1_later_0 12 rfl rfl)
theorem dX1_later_15 : decode cX1_later 15 = .ok (.ifCond .ne 5, 3) := dk_154 0 5 (dk_at dksX1_later_0 15 rfl rfl)
theorem dX1_later_18 : decode cX1_later 18 = .ok (.iconst (-1), 1) := dk_2 (dk_at dksX1_later_0 18 rfl rfl)
theorem dX1_later_19 : decode cX1_later 19 = .ok (.ireturn, 1) := dk_172 (dk_at dksX1_later_0 19 rfl rfl)
theorem dX1_later_20 : decode cX1_later 20 = .ok (.aload_n 0, 1) := dk_42 (dk_at dksX1_later_0 20 rfl rfl)
theorem dX1_later_21 : decode cX1_later 21 = .ok (.getfield 44, 3) := dk_180 0 44 (dk_at dksX1_later_0 21 rfl rfl)
theorem dX1_later_24 : decode cX1_later 24 = .ok (.aload_n 0, 1) := dk_42 (dk_at dksX1_later_1 0 rfl rfl)
theorem dX1_later_25 : decode cX1_later 25 = .ok (.getfield 40, 3) := dk_180 0 40 (dk_at dksX1_later_1 1 rfl rfl)
theorem dX1_later_28 : decode cX1_later 28 = .ok (.invokevirtual 227, 3) := dk_182 0 227 (dk_at dksX1_later_1 4 rfl rfl)
theorem dX1_later_31 : decode cX1_later 31 = .ok (.pop, 1) := dk_87 (dk_at dksX1_later_1 7 rfl rfl)
theorem dX1_later_32 : decode cX1_later 32 = .ok (.iconst 0, 1) := dk_3 (dk_at dksX1_later_1 8 rfl rfl)
theorem dX1_later_33 : decode cX1_later 33 = .ok (.istore_n 3, 1) := dk_62 (dk_at dksX1_later_1 9 rfl rfl)
theorem dX1_later_34 : decode cX1_later 34 = .ok (.iload_n 3, 1) := dk_29 (dk_at dksX1_later_1 10 rfl rfl)
theorem dX1_later_35 : decode cX1_later 35 = .ok (.iload_n 2, 1) := dk_28 (dk_at dksX1_later_1 11 rfl rfl)
theorem dX1_later_36 : decode cX1_later 36 = .ok (.if_icmp .ge 17, 3) := dk_162 0 17 (dk_at dksX1_later_1 12 rfl rfl)
theorem dX1_later_39 : decode cX1_later 39 = .ok (.aload_n 0, 1) := dk_42 (dk_at dksX1_later_1 15 rfl rfl)
theorem dX1_later_40 : decode cX1_later 40 = .ok (.getfield 44, 3) := dk_180 0 44 (dk_at dksX1_later_1 16 rfl rfl)
theorem dX1_later_43 : decode cX1_later 43 = .ok (.invokevirtual 210, 3) := dk_182 0 210 (dk_at dksX1_later_1 19 rfl rfl)
theorem dX1_later_46 : decode cX1_later 46 = .ok (.pop, 1) := dk_87 (dk_at dksX1_later_1 22 rfl rfl)
theorem dX1_later_47 : decode cX1_later 47 = .ok (.iinc 3 1, 3) := dk_132 3 1 (dk_at dksX1_later_2 0 rfl rfl)
theorem dX1_later_50 : decode cX1_later 50 = .ok (.goto (-16), 3) := dk_167 255 240 (dk_at dksX1_later_2 3 rfl rfl)
theorem dX1_later_53 : decode cX1_later 53 = .ok (.aload_n 0, 1) := dk_42 (dk_at dksX1_later_2 6 rfl rfl)
theorem dX1_later_54 : decode cX1_later 54 = .ok (.getfield 44, 3) := dk_180 0 44 (dk_at dksX1_later_2 7 rfl rfl)
theorem dX1_later_57 : decode cX1_later 57 = .ok (.getfield 161, 3) := dk_180 0 161 (dk_at dksX1_later_2 10 rfl rfl)
theorem dX1_later_60 : decode cX1_later 60 = .ok (.iload_n 1, 1) := dk_27 (dk_at dksX1_later_2 13 rfl rfl)
theorem dX1_later_61 : decode cX1_later 61 = .ok (.iaload, 1) := dk_46 (dk_at dksX1_later_2 14 rfl rfl)
theorem dX1_later_62 : decode cX1_later 62 = .ok (.ireturn, 1) := dk_172 (dk_at dksX1_later_2 15 rfl rfl)
def dkwX1_meets_4 : List UInt8 := [2, 172]
abbrev dktX1_meets_4 : List UInt8 := dkwX1_meets_4 ++ []
def dkwX1_meets_3 : List UInt8 := [180, 0, 161, 28, 46, 160, 0, 5, 29, 172, 42, 180, 0, 44, 182, 0, 210, 87, 132, 3, 1, 167, 255, 203]
abbrev dktX1_meets_3 : List UInt8 := dkwX1_meets_3 ++ dktX1_meets_4
def dkwX1_meets_2 : List UInt8 := [180, 0, 161, 27, 46, 2, 159, 0, 26, 42, 180, 0, 44, 180, 0, 161, 27, 46, 42, 180, 0, 44]
abbrev dktX1_meets_2 : List UInt8 := dkwX1_meets_2 ++ dktX1_meets_3
def dkwX1_meets_1 : List UInt8 := [180, 0, 44, 42, 180, 0, 40, 182, 0, 227, 87, 3, 62, 29, 16, 40, 163, 0, 53, 42, 180, 0, 44]
abbrev dktX1_meets_1 : List UInt8 := dkwX1_meets_1 ++ dktX1_meets_2
def dkwX1_meets_0 : List UInt8 := [42, 27, 182, 0, 151, 153, 0, 16, 42, 28, 182, 0, 151, 153, 0, 8, 27, 28, 160, 0, 5, 2, 172, 42]
abbrev dktX1_meets_0 : List UInt8 := dkwX1_meets_0 ++ dktX1_meets_1
theorem dksX1_meets_0 : cX1_meets.data.toList.drop 0 = dktX1_meets_0 := by decide +kernel
theorem dksX1_meets_1 : cX1_meets.data.toList.drop 24 = dktX1_meets_1 := dk_seg dksX1_meets_0 24 rfl rfl
theorem dksX1_meets_2 : cX1_meets.data.toList.drop 47 = dktX1_meets_2 := dk_seg dksX1_meets_1 23 rfl rfl
theorem dksX1_meets_3 : cX1_meets.data.toList.drop 69 = dktX1_meets_3 := dk_seg dksX1_meets_2 22 rfl rfl
theorem dksX1_meets_4 : cX1_meets.data.toList.drop 93 = dktX1_meets_4 := dk_seg dksX1_meets_3 24 rfl rfl
theorem dX1_meets_0 : decode cX1_meets 0 = .ok (.aload_n 0, 1) := dk_42 (dk_at dksX1_meets_0 0 rfl rfl)
theorem dX1_meets_1 : decode cX1_meets 1 = .ok (.iload_n 1, 1) := dk_27 (dk_at dksX1_meets_0 1 rfl rfl)
theorem dX1_meets_2 : decode cX1_meets 2 = .ok (.invokevirtual 151, 3) := dk_182 0 151 (dk_at dksX1_meets_0 2 rfl rfl)
theorem dX1_meets_5 : decode cX1_meets 5 = .ok (.ifCond .eq 16, 3) := dk_153 0 16 (dk_at dksX1_meets_0 5 rfl rfl)
theorem dX1_meets_8 : decode cX1_meets 8 = .ok (.aload_n 0, 1) := dk_42 (dk_at dksX1_meets_0 8 rfl rfl)
theorem dX1_meets_9 : decode cX1_meets 9 = .ok (.iload_n 2, 1) := dk_28 (dk_at dksX1_meets_0 9 rfl rfl)
theorem dX1_meets_10 : decode cX1_meets 10 = .ok (.invokevirtual 151, 3) := dk_182 0 151 (dk_at dksX1_meets_0 10 rfl rfl)
theorem dX1_meets_13 : decode cX1_meets 13 = .ok (.ifCond .eq 8, 3) := dk_153 0 8 (dk_at dksX1_meets_0 13 rfl rfl)
theorem dX1_meets_16 : decode cX1_meets 16 = .ok (.iload_n 1, 1) := dk_27 (dk_at dksX1_meets_0 16 rfl rfl)
theorem dX1_meets_17 : decode cX1_meets 17 = .ok (.iload_n 2, 1) := dk_28 (dk_at dksX1_meets_0 17 rfl rfl)
theorem dX1_meets_18 : decode cX1_meets 18 = .ok (.if_icmp .ne 5, 3) := dk_160 0 5 (dk_at dksX1_meets_0 18 rfl rfl)
theorem dX1_meets_21 : decode cX1_meets 21 = .ok (.iconst (-1), 1) := dk_2 (dk_at dksX1_meets_0 21 rfl rfl)
theorem dX1_meets_22 : decode cX1_meets 22 = .ok (.ireturn, 1) := dk_172 (dk_at dksX1_meets_0 22 rfl rfl)
theorem dX1_meets_23 : decode cX1_meets 23 = .ok (.aload_n 0, 1) := dk_42 (dk_at dksX1_meets_0 23 rfl rfl)
theorem dX1_meets_24 : decode cX1_meets 24 = .ok (.getfield 44, 3) := dk_180 0 44 (dk_at dksX1_meets_1 0 rfl rfl)
theorem dX1_meets_27 : decode cX1_meets 27 = .ok (.aload_n 0, 1) := dk_42 (dk_at dksX1_meets_1 3 rfl rfl)
theorem dX1_meets_28 : decode cX1_meets 28 = .ok (.getfield 40, 3) := dk_180 0 40 (dk_at dksX1_meets_1 4 rfl rfl)
theorem dX1_meets_31 : decode cX1_meets 31 = .ok (.invokevirtual 227, 3) := dk_182 0 227 (dk_at dksX1_meets_1 7 rfl rfl)
theorem dX1_meets_34 : decode cX1_meets 34 = .ok (.pop, 1) := dk_87 (dk_at dksX1_meets_1 10 rfl rfl)
theorem dX1_meets_35 : decode cX1_meets 35 = .ok (.iconst 0, 1) := dk_3 (dk_at dksX1_meets_1 11 rfl rfl)
theorem dX1_meets_36 : decode cX1_meets 36 = .ok (.istore_n 3, 1) := dk_62 (dk_at dksX1_meets_1 12 rfl rfl)
theorem dX1_meets_37 : decode cX1_meets 37 = .ok (.iload_n 3, 1) := dk_29 (dk_at dksX1_meets_1 13 rfl rfl)
theorem dX1_meets_38 : decode cX1_meets 38 = .ok (.bipush 40, 2) := dk_16 40 (dk_at dksX1_meets_1 14 rfl rfl)
theorem dX1_meets_40 : decode cX1_meets 40 = .ok (.if_icmp .gt 53, 3) := dk_163 0 53 (dk_at dksX1_meets_1 16 rfl rfl)
theorem dX1_meets_43 : decode cX1_meets 43 = .ok (.aload_n 0, 1) := dk_42 (dk_at dksX1_meets_1 19 rfl rfl)
theorem dX1_meets_44 : decode cX1_meets 44 = .ok (.getfield 44, 3) := dk_180 0 44 (dk_at dksX1_meets_1 20 rfl rfl)
theorem dX1_meets_47 : decode cX1_meets 47 = .ok (.getfield 161, 3) := dk_180 0 161 (dk_at dksX1_meets_2 0 rfl rfl)
theorem dX1_meets_50 : decode cX1_meets 50 = .ok (.iload_n 1, 1) := dk_27 (dk_at dksX1_meets_2 3 rfl rfl)
theorem dX1_meets_51 : decode cX1_meets 51 = .ok (.iaload, 1) := dk_46 (dk_at dksX1_meets_2 4 rfl rfl)
theorem dX1_meets_52 : decode cX1_meets 52 = .ok (.iconst (-1), 1) := dk_2 (dk_at dksX1_meets_2 5 rfl rfl)
theorem dX1_meets_53 : decode cX1_meets 53 = .ok (.if_icmp .eq 26, 3) := dk_159 0 26 (dk_at dksX1_meets_2 6 rfl rfl)
theorem dX1_meets_56 : decode cX1_meets 56 = .ok (.aload_n 0, 1) := dk_42 (dk_at dksX1_meets_2 9 rfl rfl)
theorem dX1_meets_57 : decode cX1_meets 57 = .ok (.getfield 44, 3) := dk_180 0 44 (dk_at dksX1_meets_2 10 rfl rfl)
theorem dX1_meets_60 : decode cX1_meets 60 = .ok (.getfield 161, 3) := dk_180 0 161 (dk_at dksX1_meets_2 13 rfl rfl)
theorem dX1_meets_63 : decode cX1_meets 63 = .ok (.iload_n 1, 1) := dk_27 (dk_at dksX1_meets_2 16 rfl rfl)
theorem dX1_meets_64 : decode cX1_meets 64 = .ok (.iaload, 1) := dk_46 (dk_at dksX1_meets_2 17 rfl rfl)
theorem dX1_meets_65 : decode cX1_meets 65 = .ok (.aload_n 0, 1) := dk_42 (dk_at dksX1_meets_2 18 rfl rfl)
theorem dX1_meets_66 : decode cX1_meets 66 = .ok (.getfield 44, 3) := dk_180 0 44 (dk_at dksX1_meets_2 19 rfl rfl)
theorem dX1_meets_69 : decode cX1_meets 69 = .ok (.getfield 161, 3) := dk_180 0 161 (dk_at dksX1_meets_3 0 rfl rfl)
theorem dX1_meets_72 : decode cX1_meets 72 = .ok (.iload_n 2, 1) := dk_28 (dk_at dksX1_meets_3 3 rfl rfl)
theorem dX1_meets_73 : decode cX1_meets 73 = .ok (.iaload, 1) := dk_46 (dk_at dksX1_meets_3 4 rfl rfl)
theorem dX1_meets_74 : decode cX1_meets 74 = .ok (.if_icmp .ne 5, 3) := dk_160 0 5 (dk_at dksX1_meets_3 5 rfl rfl)
theorem dX1_meets_77 : decode cX1_meets 77 = .ok (.iload_n 3, 1) := dk_29 (dk_at dksX1_meets_3 8 rfl rfl)
theorem dX1_meets_78 : decode cX1_meets 78 = .ok (.ireturn, 1) := dk_172 (dk_at dksX1_meets_3 9 rfl rfl)
theorem dX1_meets_79 : decode cX1_meets 79 = .ok (.aload_n 0, 1) := dk_42 (dk_at dksX1_meets_3 10 rfl rfl)
theorem dX1_meets_80 : decode cX1_meets 80 = .ok (.getfield 44, 3) := dk_180 0 44 (dk_at dksX1_meets_3 11 rfl rfl)
theorem dX1_meets_83 : decode cX1_meets 83 = .ok (.invokevirtual 210, 3) := dk_182 0 210 (dk_at dksX1_meets_3 14 rfl rfl)
theorem dX1_meets_86 : decode cX1_meets 86 = .ok (.pop, 1) := dk_87 (dk_at dksX1_meets_3 17 rfl rfl)
theorem dX1_meets_87 : decode cX1_meets 87 = .ok (.iinc 3 1, 3) := dk_132 3 1 (dk_at dksX1_meets_3 18 rfl rfl)
theorem dX1_meets_90 : decode cX1_meets 90 = .ok (.goto (-53), 3) := dk_167 255 203 (dk_at dksX1_meets_3 21 rfl rfl)
theorem dX1_meets_93 : decode cX1_meets 93 = .ok (.iconst (-1), 1) := dk_2 (dk_at dksX1_meets_4 0 rfl rfl)
theorem dX1_meets_94 : decode cX1_meets 94 = .ok (.ireturn, 1) := dk_172 (dk_at dksX1_meets_4 1 rfl rfl)
def dkwX1_camped_3 : List UInt8 := [172]
abbrev dktX1_camped_3 : List UInt8 := dkwX1_camped_3 ++ []
def dkwX1_camped_2 : List UInt8 := [180, 0, 44, 180, 0, 234, 28, 51, 153, 0, 9, 27, 4, 28, 120, 128, 60, 132, 2, 1, 167, 255, 213, 27]
abbrev dktX1_camped_2 : List UInt8 := dkwX1_camped_2 ++ dktX1_camped_3
def dkwX1_camped_1 : List UInt8 := [42, 182, 0, 132, 162, 0, 41, 42, 180, 0, 40, 180, 0, 170, 28, 184, 0, 147, 153, 0, 21, 42]
abbrev dktX1_camped_1 : List UInt8 := dkwX1_camped_1 ++ dktX1_camped_2
def dkwX1_camped_0 : List UInt8 := [42, 180, 0, 44, 42, 180, 0, 40, 182, 0, 227, 87, 42, 180, 0, 44, 182, 0, 231, 3, 60, 3, 61, 28]
abbrev dktX1_camped_0 : List UInt8 := dkwX1_camped_0 ++ dktX1_camped_1
theorem dksX1_camped_0 : cX1_camped.data.toList.drop 0 = dktX1_camped_0 := by decide +kernel
theorem dksX1_camped_1 : cX1_camped.data.toList.drop 24 = dktX1_camped_1 := dk_seg dksX1_camped_0 24 rfl rfl
theorem dksX1_camped_2 : cX1_camped.data.toList.drop 46 = dktX1_camped_2 := dk_seg dksX1_camped_1 22 rfl rfl
theorem dksX1_camped_3 : cX1_camped.data.toList.drop 70 = dktX1_camped_3 := dk_seg dksX1_camped_2 24 rfl rfl
theorem dX1_camped_0 : decode cX1_camped 0 = .ok (.aload_n 0, 1) := dk_42 (dk_at dksX1_camped_0 0 rfl rfl)
theorem dX1_camped_1 : decode cX1_camped 1 = .ok (.getfield 44, 3) := dk_180 0 44 (dk_at dksX1_camped_0 1 rfl rfl)
theorem dX1_camped_4 : decode cX1_camped 4 = .ok (.aload_n 0, 1) := dk_42 (dk_at dksX1_camped_0 4 rfl rfl)
theorem dX1_camped_5 : decode cX1_camped 5 = .ok (.getfield 40, 3) := dk_180 0 40 (dk_at dksX1_camped_0 5 rfl rfl)
theorem dX1_camped_8 : decode cX1_camped 8 = .ok (.invokevirtual 227, 3) := dk_182 0 227 (dk_at dksX1_camped_0 8 rfl rfl)
theorem dX1_camped_11 : decode cX1_camped 11 = .ok (.pop, 1) := dk_87 (dk_at dksX1_camped_0 11 rfl rfl)
theorem dX1_camped_12 : decode cX1_camped 12 = .ok (.aload_n 0, 1) := dk_42 (dk_at dksX1_camped_0 12 rfl rfl)
theorem dX1_camped_13 : decode cX1_camped 13 = .ok (.getfield 44, 3) := dk_180 0 44 (dk_at dksX1_camped_0 13 rfl rfl)
theorem dX1_camped_16 : decode cX1_camped 16 = .ok (.invokevirtual 231, 3) := dk_182 0 231 (dk_at dksX1_camped_0 16 rfl rfl)
theorem dX1_camped_19 : decode cX1_camped 19 = .ok (.iconst 0, 1) := dk_3 (dk_at dksX1_camped_0 19 rfl rfl)
theorem dX1_camped_20 : decode cX1_camped 20 = .ok (.istore_n 1, 1) := dk_60 (dk_at dksX1_camped_0 20 rfl rfl)
theorem dX1_camped_21 : decode cX1_camped 21 = .ok (.iconst 0, 1) := dk_3 (dk_at dksX1_camped_0 21 rfl rfl)
theorem dX1_camped_22 : decode cX1_camped 22 = .ok (.istore_n 2, 1) := dk_61 (dk_at dksX1_camped_0 22 rfl rfl)
theorem dX1_camped_23 : decode cX1_camped 23 = .ok (.iload_n 2, 1) := dk_28 (dk_at dksX1_camped_0 23 rfl rfl)
theorem dX1_camped_24 : decode cX1_camped 24 = .ok (.aload_n 0, 1) := dk_42 (dk_at dksX1_camped_1 0 rfl rfl)
theorem dX1_camped_25 : decode cX1_camped 25 = .ok (.invokevirtual 132, 3) := dk_182 0 132 (dk_at dksX1_camped_1 1 rfl rfl)
theorem dX1_camped_28 : decode cX1_camped 28 = .ok (.if_icmp .ge 41, 3) := dk_162 0 41 (dk_at dksX1_camped_1 4 rfl rfl)
theorem dX1_camped_31 : decode cX1_camped 31 = .ok (.aload_n 0, 1) := dk_42 (dk_at dksX1_camped_1 7 rfl rfl)
theorem dX1_camped_32 : decode cX1_camped 32 = .ok (.getfield 40, 3) := dk_180 0 40 (dk_at dksX1_camped_1 8 rfl rfl)
theorem dX1_camped_35 : decode cX1_camped 35 = .ok (.getfield 170, 3) := dk_180 0 170 (dk_at dksX1_camped_1 11 rfl rfl)
theorem dX1_camped_38 : decode cX1_camped 38 = .ok (.iload_n 2, 1) := dk_28 (dk_at dksX1_camped_1 14 rfl rfl)
theorem dX1_camped_39 : decode cX1_camped 39 = .ok (.invokestatic 147, 3) := dk_184 0 147 (dk_at dksX1_camped_1 15 rfl rfl)
theorem dX1_camped_42 : decode cX1_camped 42 = .ok (.ifCond .eq 21, 3) := dk_153 0 21 (dk_at dksX1_camped_1 18 rfl rfl)
theorem dX1_camped_45 : decode cX1_camped 45 = .ok (.aload_n 0, 1) := dk_42 (dk_at dksX1_camped_1 21 rfl rfl)
theorem dX1_camped_46 : decode cX1_camped 46 = .ok (.getfield 44, 3) := dk_180 0 44 (dk_at dksX1_camped_2 0 rfl rfl)
theorem dX1_camped_49 : decode cX1_camped 49 = .ok (.getfield 234, 3) := dk_180 0 234 (dk_at dksX1_camped_2 3 rfl rfl)
theorem dX1_camped_52 : decode cX1_camped 52 = .ok (.iload_n 2, 1) := dk_28 (dk_at dksX1_camped_2 6 rfl rfl)
theorem dX1_camped_53 : decode cX1_camped 53 = .ok (.baload, 1) := dk_51 (dk_at dksX1_camped_2 7 rfl rfl)
theorem dX1_camped_54 : decode cX1_camped 54 = .ok (.ifCond .eq 9, 3) := dk_153 0 9 (dk_at dksX1_camped_2 8 rfl rfl)
theorem dX1_camped_57 : decode cX1_camped 57 = .ok (.iload_n 1, 1) := dk_27 (dk_at dksX1_camped_2 11 rfl rfl)
theorem dX1_camped_58 : decode cX1_camped 58 = .ok (.iconst 1, 1) := dk_4 (dk_at dksX1_camped_2 12 rfl rfl)
theorem dX1_camped_59 : decode cX1_camped 59 = .ok (.iload_n 2, 1) := dk_28 (dk_at dksX1_camped_2 13 rfl rfl)
theorem dX1_camped_60 : decode cX1_camped 60 = .ok (.ishl, 1) := dk_120 (dk_at dksX1_camped_2 14 rfl rfl)
theorem dX1_camped_61 : decode cX1_camped 61 = .ok (.ior, 1) := dk_128 (dk_at dksX1_camped_2 15 rfl rfl)
theorem dX1_camped_62 : decode cX1_camped 62 = .ok (.istore_n 1, 1) := dk_60 (dk_at dksX1_camped_2 16 rfl rfl)
theorem dX1_camped_63 : decode cX1_camped 63 = .ok (.iinc 2 1, 3) := dk_132 2 1 (dk_at dksX1_camped_2 17 rfl rfl)
theorem dX1_camped_66 : decode cX1_camped 66 = .ok (.goto (-43), 3) := dk_167 255 213 (dk_at dksX1_camped_2 20 rfl rfl)
theorem dX1_camped_69 : decode cX1_camped 69 = .ok (.iload_n 1, 1) := dk_27 (dk_at dksX1_camped_2 23 rfl rfl)
theorem dX1_camped_70 : decode cX1_camped 70 = .ok (.ireturn, 1) := dk_172 (dk_at dksX1_camped_3 0 rfl rfl)
def dkwX1_would_2 : List UInt8 := [87, 28, 158, 0, 12, 42, 180, 0, 44, 27, 28, 182, 0, 203, 42, 27, 182, 0, 248, 172]
abbrev dktX1_would_2 : List UInt8 := dkwX1_would_2 ++ []
def dkwX1_would_1 : List UInt8 := [180, 0, 40, 27, 28, 182, 0, 197, 154, 0, 5, 2, 172, 42, 180, 0, 44, 42, 180, 0, 40, 182, 0, 227]
abbrev dktX1_would_1 : List UInt8 := dkwX1_would_1 ++ dktX1_would_2
def dkwX1_would_0 : List UInt8 := [42, 27, 182, 0, 207, 153, 0, 28, 28, 3, 7, 184, 0, 134, 153, 0, 19, 28, 158, 0, 17, 42]
abbrev dktX1_would_0 : List UInt8 := dkwX1_would_0 ++ dktX1_would_1
theorem dksX1_would_0 : cX1_would.data.toList.drop 0 = dktX1_would_0 := by decide +kernel
theorem dksX1_would_1 : cX1_would.data.toList.drop 22 = dktX1_would_1 := dk_seg dksX1_would_0 22 rfl rfl
theorem dksX1_would_2 : cX1_would.data.toList.drop 46 = dktX1_would_2 := dk_seg dksX1_would_1 24 rfl rfl
theorem dX1_would_0 : decode cX1_would 0 = .ok (.aload_n 0, 1) := dk_42 (dk_at dksX1_would_0 0 rfl rfl)
theorem dX1_would_1 : decode cX1_would 1 = .ok (.iload_n 1, 1) := dk_27 (dk_at dksX1_would_0 1 rfl rfl)
theorem dX1_would_2 : decode cX1_would 2 = .ok (.invokevirtual 207, 3) := dk_182 0 207 (dk_at dksX1_would_0 2 rfl rfl)
theorem dX1_would_5 : decode cX1_would 5 = .ok (.ifCond .eq 28, 3) := dk_153 0 28 (dk_at dksX1_would_0 5 rfl rfl)
theorem dX1_would_8 : decode cX1_would 8 = .ok (.iload_n 2, 1) := dk_28 (dk_at dksX1_would_0 8 rfl rfl)
theorem dX1_would_9 : decode cX1_would 9 = .ok (.iconst 0, 1) := dk_3 (dk_at dksX1_would_0 9 rfl rfl)
theorem dX1_would_10 : decode cX1_would 10 = .ok (.iconst 4, 1) := dk_7 (dk_at dksX1_would_0 10 rfl rfl)
theorem dX1_would_11 : decode cX1_would 11 = .ok (.invokestatic 134, 3) := dk_184 0 134 (dk_at dksX1_would_0 11 rfl rfl)
theorem dX1_would_14 : decode cX1_would 14 = .ok (.ifCond .eq 19, 3) := dk_153 0 19 (dk_at dksX1_would_0 14 rfl rfl)
theorem dX1_would_17 : decode cX1_would 17 = .ok (.iload_n 2, 1) := dk_28 (dk_at dksX1_would_0 17 rfl rfl)
theorem dX1_would_18 : decode cX1_would 18 = .ok (.ifCond .le 17, 3) := dk_158 0 17 (dk_at dksX1_would_0 18 rfl rfl)
theorem dX1_would_21 : decode cX1_would 21 = .ok (.aload_n 0, 1) := dk_42 (dk_at dksX1_would_0 21 rfl rfl)
theorem dX1_would_22 : decode cX1_would 22 = .ok (.getfield 40, 3) := dk_180 0 40 (dk_at dksX1_would_1 0 rfl rfl)
theorem dX1_would_25 : decode cX1_would 25 = .ok (.iload_n 1, 1) := dk_27 (dk_at dksX1_would_1 3 rfl rfl)
theorem dX1_would_26 : decode cX1_would 26 = .ok (.iload_n 2, 1) := dk_28 (dk_at dksX1_would_1 4 rfl rfl)
theorem dX1_would_27 : decode cX1_would 27 = .ok (.invokevirtual 197, 3) := dk_182 0 197 (dk_at dksX1_would_1 5 rfl rfl)
theorem dX1_would_30 : decode cX1_would 30 = .ok (.ifCond .ne 5, 3) := dk_154 0 5 (dk_at dksX1_would_1 8 rfl rfl)
theorem dX1_would_33 : decode cX1_would 33 = .ok (.iconst (-1), 1) := dk_2 (dk_at dksX1_would_1 11 rfl rfl)
theorem dX1_would_34 : decode cX1_would 34 = .ok (.ireturn, 1) := dk_172 (dk_at dksX1_would_1 12 rfl rfl)
theorem dX1_would_35 : decode cX1_would 35 = .ok (.aload_n 0, 1) := dk_42 (dk_at dksX1_would_1 13 rfl rfl)
theorem dX1_would_36 : decode cX1_would 36 = .ok (.getfield 44, 3) := dk_180 0 44 (dk_at dksX1_would_1 14 rfl rfl)
theorem dX1_would_39 : decode cX1_would 39 = .ok (.aload_n 0, 1) := dk_42 (dk_at dksX1_would_1 17 rfl rfl)
theorem dX1_would_40 : decode cX1_would 40 = .ok (.getfield 40, 3) := dk_180 0 40 (dk_at dksX1_would_1 18 rfl rfl)
theorem dX1_would_43 : decode cX1_would 43 = .ok (.invokevirtual 227, 3) := dk_182 0 227 (dk_at dksX1_would_1 21 rfl rfl)
theorem dX1_would_46 : decode cX1_would 46 = .ok (.pop, 1) := dk_87 (dk_at dksX1_would_2 0 rfl rfl)
theorem dX1_would_47 : decode cX1_would 47 = .ok (.iload_n 2, 1) := dk_28 (dk_at dksX1_would_2 1 rfl rfl)
theorem dX1_would_48 : decode cX1_would 48 = .ok (.ifCond .le 12, 3) := dk_158 0 12 (dk_at dksX1_would_2 2 rfl rfl)
theorem dX1_would_51 : decode cX1_would 51 = .ok (.aload_n 0, 1) := dk_42 (dk_at dksX1_would_2 5 rfl rfl)
theorem dX1_would_52 : decode cX1_would 52 = .ok (.getfield 44, 3) := dk_180 0 44 (dk_at dksX1_would_2 6 rfl rfl)
theorem dX1_would_55 : decode cX1_would 55 = .ok (.iload_n 1, 1) := dk_27 (dk_at dksX1_would_2 9 rfl rfl)
theorem dX1_would_56 : decode cX1_would 56 = .ok (.iload_n 2, 1) := dk_28 (dk_at dksX1_would_2 10 rfl rfl)
theorem dX1_would_57 : decode cX1_would 57 = .ok (.invokevirtual 203, 3) := dk_182 0 203 (dk_at dksX1_would_2 11 rfl rfl)
theorem dX1_would_60 : decode cX1_would 60 = .ok (.aload_n 0, 1) := dk_42 (dk_at dksX1_would_2 14 rfl rfl)
theorem dX1_would_61 : decode cX1_would 61 = .ok (.iload_n 1, 1) := dk_27 (dk_at dksX1_would_2 15 rfl rfl)
theorem dX1_would_62 : decode cX1_would 62 = .ok (.invokevirtual 248, 3) := dk_182 0 248 (dk_at dksX1_would_2 16 rfl rfl)
theorem dX1_would_65 : decode cX1_would 65 = .ok (.ireturn, 1) := dk_172 (dk_at dksX1_would_2 19 rfl rfl)
def dkwX1_hearing_3 : List UInt8 := [28, 172]
abbrev dktX1_hearing_3 : List UInt8 := dkwX1_hearing_3 ++ []
def dkwX1_hearing_2 : List UInt8 := [180, 0, 238, 182, 0, 241, 182, 0, 245, 153, 0, 9, 28, 4, 29, 120, 128, 61, 132, 3, 1, 167, 255, 199]
abbrev dktX1_hearing_2 : List UInt8 := dkwX1_hearing_2 ++ dktX1_hearing_3
def dkwX1_hearing_1 : List UInt8 := [180, 0, 170, 29, 184, 0, 147, 153, 0, 35, 42, 180, 0, 44, 29, 27, 42, 182, 0, 112, 42, 180, 0, 44]
abbrev dktX1_hearing_1 : List UInt8 := dkwX1_hearing_1 ++ dktX1_hearing_2
def dkwX1_hearing_0 : List UInt8 := [42, 180, 0, 44, 182, 0, 231, 3, 61, 3, 62, 29, 42, 182, 0, 132, 162, 0, 55, 42, 180, 0, 44]
abbrev dktX1_hearing_0 : List UInt8 := dkwX1_hearing_0 ++ dktX1_hearing_1
theorem dksX1_hearing_0 : cX1_hearing.data.toList.drop 0 = dktX1_hearing_0 := by decide +kernel
theorem dksX1_hearing_1 : cX1_hearing.data.toList.drop 23 = dktX1_hearing_1 := dk_seg dksX1_hearing_0 23 rfl rfl
theorem dksX1_hearing_2 : cX1_hearing.data.toList.drop 47 = dktX1_hearing_2 := dk_seg dksX1_hearing_1 24 rfl rfl
theorem dksX1_hearing_3 : cX1_hearing.data.toList.drop 71 = dktX1_hearing_3 := dk_seg dksX1_hearing_2 24 rfl rfl
theorem dX1_hearing_0 : decode cX1_hearing 0 = .ok (.aload_n 0, 1) := dk_42 (dk_at dksX1_hearing_0 0 rfl rfl)
theorem dX1_hearing_1 : decode cX1_hearing 1 = .ok (.getfield 44, 3) := dk_180 0 44 (dk_at dksX1_hearing_0 1 rfl rfl)
theorem dX1_hearing_4 : decode cX1_hearing 4 = .ok (.invokevirtual 231, 3) := dk_182 0 231 (dk_at dksX1_hearing_0 4 rfl rfl)
theorem dX1_hearing_7 : decode cX1_hearing 7 = .ok (.iconst 0, 1) := dk_3 (dk_at dksX1_hearing_0 7 rfl rfl)
theorem dX1_hearing_8 : decode cX1_hearing 8 = .ok (.istore_n 2, 1) := dk_61 (dk_at dksX1_hearing_0 8 rfl rfl)
theorem dX1_hearing_9 : decode cX1_hearing 9 = .ok (.iconst 0, 1) := dk_3 (dk_at dksX1_hearing_0 9 rfl rfl)
theorem dX1_hearing_10 : decode cX1_hearing 10 = .ok (.istore_n 3, 1) := dk_62 (dk_at dksX1_hearing_0 10 rfl rfl)
theorem dX1_hearing_11 : decode cX1_hearing 11 = .ok (.iload_n 3, 1) := dk_29 (dk_at dksX1_hearing_0 11 rfl rfl)
theorem dX1_hearing_12 : decode cX1_hearing 12 = .ok (.aload_n 0, 1) := dk_42 (dk_at dksX1_hearing_0 12 rfl rfl)
theorem dX1_hearing_13 : decode cX1_hearing 13 = .ok (.invokevirtual 132, 3) := dk_182 0 132 (dk_at dksX1_hearing_0 13 rfl rfl)
theorem dX1_hearing_16 : decode cX1_hearing 16 = .ok (.if_icmp .ge 55, 3) := dk_162 0 55 (dk_at dksX1_hearing_0 16 rfl rfl)
theorem dX1_hearing_19 : decode cX1_hearing 19 = .ok (.aload_n 0, 1) := dk_42 (dk_at dksX1_hearing_0 19 rfl rfl)
theorem dX1_hearing_20 : decode cX1_hearing 20 = .ok (.getfield 44, 3) := dk_180 0 44 (dk_at dksX1_hearing_0 20 rfl rfl)
theorem dX1_hearing_23 : decode cX1_hearing 23 = .ok (.getfield 170, 3) := dk_180 0 170 (dk_at dksX1_hearing_1 0 rfl rfl)
theorem dX1_hearing_26 : decode cX1_hearing 26 = .ok (.iload_n 3, 1) := dk_29 (dk_at dksX1_hearing_1 3 rfl rfl)
theorem dX1_hearing_27 : decode cX1_hearing 27 = .ok (.invokestatic 147, 3) := dk_184 0 147 (dk_at dksX1_hearing_1 4 rfl rfl)
theorem dX1_hearing_30 : decode cX1_hearing 30 = .ok (.ifCond .eq 35, 3) := dk_153 0 35 (dk_at dksX1_hearing_1 7 rfl rfl)
theorem dX1_hearing_33 : decode cX1_hearing 33 = .ok (.aload_n 0, 1) := dk_42 (dk_at dksX1_hearing_1 10 rfl rfl)
theorem dX1_hearing_34 : decode cX1_hearing 34 = .ok (.getfield 44, 3) := dk_180 0 44 (dk_at dksX1_hearing_1 11 rfl rfl)
theorem dX1_hearing_37 : decode cX1_hearing 37 = .ok (.iload_n 3, 1) := dk_29 (dk_at dksX1_hearing_1 14 rfl rfl)
theorem dX1_hearing_38 : decode cX1_hearing 38 = .ok (.iload_n 1, 1) := dk_27 (dk_at dksX1_hearing_1 15 rfl rfl)
theorem dX1_hearing_39 : decode cX1_hearing 39 = .ok (.aload_n 0, 1) := dk_42 (dk_at dksX1_hearing_1 16 rfl rfl)
theorem dX1_hearing_40 : decode cX1_hearing 40 = .ok (.invokevirtual 112, 3) := dk_182 0 112 (dk_at dksX1_hearing_1 17 rfl rfl)
theorem dX1_hearing_43 : decode cX1_hearing 43 = .ok (.aload_n 0, 1) := dk_42 (dk_at dksX1_hearing_1 20 rfl rfl)
theorem dX1_hearing_44 : decode cX1_hearing 44 = .ok (.getfield 44, 3) := dk_180 0 44 (dk_at dksX1_hearing_1 21 rfl rfl)
theorem dX1_hearing_47 : decode cX1_hearing 47 = .ok (.getfield 238, 3) := dk_180 0 238 (dk_at dksX1_hearing_2 0 rfl rfl)
theorem dX1_hearing_50 : decode cX1_hearing 50 = .ok (.invokevirtual 241, 3) := dk_182 0 241 (dk_at dksX1_hearing_2 3 rfl rfl)
theorem dX1_hearing_53 : decode cX1_hearing 53 = .ok (.invokevirtual 245, 3) := dk_182 0 245 (dk_at dksX1_hearing_2 6 rfl rfl)
theorem dX1_hearing_56 : decode cX1_hearing 56 = .ok (.ifCond .eq 9, 3) := dk_153 0 9 (dk_at dksX1_hearing_2 9 rfl rfl)
theorem dX1_hearing_59 : decode cX1_hearing 59 = .ok (.iload_n 2, 1) := dk_28 (dk_at dksX1_hearing_2 12 rfl rfl)
theorem dX1_hearing_60 : decode cX1_hearing 60 = .ok (.iconst 1, 1) := dk_4 (dk_at dksX1_hearing_2 13 rfl rfl)
theorem dX1_hearing_61 : decode cX1_hearing 61 = .ok (.iload_n 3, 1) := dk_29 (dk_at dksX1_hearing_2 14 rfl rfl)
theorem dX1_hearing_62 : decode cX1_hearing 62 = .ok (.ishl, 1) := dk_120 (dk_at dksX1_hearing_2 15 rfl rfl)
theorem dX1_hearing_63 : decode cX1_hearing 63 = .ok (.ior, 1) := dk_128 (dk_at dksX1_hearing_2 16 rfl rfl)
theorem dX1_hearing_64 : decode cX1_hearing 64 = .ok (.istore_n 2, 1) := dk_61 (dk_at dksX1_hearing_2 17 rfl rfl)
theorem dX1_hearing_65 : decode cX1_hearing 65 = .ok (.iinc 3 1, 3) := dk_132 3 1 (dk_at dksX1_hearing_2 18 rfl rfl)
theorem dX1_hearing_68 : decode cX1_hearing 68 = .ok (.goto (-57), 3) := dk_167 255 199 (dk_at dksX1_hearing_2 21 rfl rfl)
theorem dX1_hearing_71 : decode cX1_hearing 71 = .ok (.iload_n 2, 1) := dk_28 (dk_at dksX1_hearing_3 0 rfl rfl)
theorem dX1_hearing_72 : decode cX1_hearing 72 = .ok (.ireturn, 1) := dk_172 (dk_at dksX1_hearing_3 1 rfl rfl)
def dkwX1_quiet_5 : List UInt8 := [167, 0, 5, 21, 4, 172]
abbrev dktX1_quiet_5 : List UInt8 := dkwX1_quiet_5 ++ []
def dkwX1_quiet_4 : List UInt8 := [132, 3, 1, 21, 4, 2, 160, 0, 7, 21, 5, 54, 4, 132, 5, 1, 167, 255, 177, 28, 154, 0, 7, 29]
abbrev dktX1_quiet_4 : List UInt8 := dkwX1_quiet_4 ++ dktX1_quiet_5
def dkwX1_quiet_3 : List UInt8 := [180, 0, 176, 4, 27, 120, 2, 130, 126, 181, 0, 176, 42, 27, 182, 0, 248, 153, 0, 6, 167, 0, 16]
abbrev dktX1_quiet_3 : List UInt8 := dkwX1_quiet_3 ++ dktX1_quiet_4
def dkwX1_quiet_2 : List UInt8 := [180, 0, 40, 182, 0, 227, 87, 42, 180, 0, 44, 180, 0, 173, 27, 21, 5, 79, 42, 180, 0, 44, 89]
abbrev dktX1_quiet_2 : List UInt8 := dkwX1_quiet_2 ++ dktX1_quiet_3
def dkwX1_quiet_1 : List UInt8 := [54, 4, 3, 54, 5, 21, 5, 42, 182, 0, 112, 182, 0, 251, 162, 0, 73, 42, 180, 0, 44, 42]
abbrev dktX1_quiet_1 : List UInt8 := dkwX1_quiet_1 ++ dktX1_quiet_2
def dkwX1_quiet_0 : List UInt8 := [42, 27, 182, 0, 207, 153, 0, 12, 28, 3, 4, 184, 0, 134, 154, 0, 6, 16, 254, 172, 3, 62, 2]
abbrev dktX1_quiet_0 : List UInt8 := dkwX1_quiet_0 ++ dktX1_quiet_1
theorem dksX1_quiet_0 : cX1_quiet.data.toList.drop 0 = dktX1_quiet_0 := by decide +kernel
theorem dksX1_quiet_1 : cX1_quiet.data.toList.drop 23 = dktX1_quiet_1 := dk_seg dksX1_quiet_0 23 rfl rfl
theorem dksX1_quiet_2 : cX1_quiet.data.toList.drop 45 = dktX1_quiet_2 := dk_seg dksX1_quiet_1 22 rfl rfl
theorem dksX1_quiet_3 : cX1_quiet.data.toList.drop 68 = dktX1_quiet_3 := dk_seg dksX1_quiet_2 23 rfl rfl
theorem dksX1_quiet_4 : cX1_quiet.data.toList.drop 91 = dktX1_quiet_4 := dk_seg dksX1_quiet_3 23 rfl rfl
theorem dksX1_quiet_5 : cX1_quiet.data.toList.drop 115 = dktX1_quiet_5 := dk_seg dksX1_quiet_4 24 rfl rfl
theorem dX1_quiet_0 : decode cX1_quiet 0 = .ok (.aload_n 0, 1) := dk_42 (dk_at dksX1_quiet_0 0 rfl rfl)
theorem dX1_quiet_1 : decode cX1_quiet 1 = .ok (.iload_n 1, 1) := dk_27 (dk_at dksX1_quiet_0 1 rfl rfl)
theorem dX1_quiet_2 : decode cX1_quiet 2 = .ok (.invokevirtual 207, 3) := dk_182 0 207 (dk_at dksX1_quiet_0 2 rfl rfl)
theorem dX1_quiet_5 : decode cX1_quiet 5 = .ok (.ifCond .eq 12, 3) := dk_153 0 12 (dk_at dksX1_quiet_0 5 rfl rfl)
theorem dX1_quiet_8 : decode cX1_quiet 8 = .ok (.iload_n 2, 1) := dk_28 (dk_at dksX1_quiet_0 8 rfl rfl)
theorem dX1_quiet_9 : decode cX1_quiet 9 = .ok (.iconst 0, 1) := dk_3 (dk_at dksX1_quiet_0 9 rfl rfl)
theorem dX1_quiet_10 : decode cX1_quiet 10 = .ok (.iconst 1, 1) := dk_4 (dk_at dksX1_quiet_0 10 rfl rfl)
theorem dX1_quiet_11 : decode cX1_quiet 11 = .ok (.invokestatic 134, 3) := dk_184 0 134 (dk_at dksX1_quiet_0 11 rfl rfl)
theorem dX1_quiet_14 : decode cX1_quiet 14 = .ok (.ifCond .ne 6, 3) := dk_154 0 6 (dk_at dksX1_quiet_0 14 rfl rfl)
theorem dX1_quiet_17 : decode cX1_quiet 17 = .ok (.bipush (-2), 2) := dk_16 254 (dk_at dksX1_quiet_0 17 rfl rfl)
theorem dX1_quiet_19 : decode cX1_quiet 19 = .ok (.ireturn, 1) := dk_172 (dk_at dksX1_quiet_0 19 rfl rfl)
theorem dX1_quiet_20 : decode cX1_quiet 20 = .ok (.iconst 0, 1) := dk_3 (dk_at dksX1_quiet_0 20 rfl rfl)
theorem dX1_quiet_21 : decode cX1_quiet 21 = .ok (.istore_n 3, 1) := dk_62 (dk_at dksX1_quiet_0 21 rfl rfl)
theorem dX1_quiet_22 : decode cX1_quiet 22 = .ok (.iconst (-1), 1) := dk_2 (dk_at dksX1_quiet_0 22 rfl rfl)
theorem dX1_quiet_23 : decode cX1_quiet 23 = .ok (.istore 4, 2) := dk_54 4 (dk_at dksX1_quiet_1 0 rfl rfl)
theorem dX1_quiet_25 : decode cX1_quiet 25 = .ok (.iconst 0, 1) := dk_3 (dk_at dksX1_quiet_1 2 rfl rfl)
theorem dX1_quiet_26 : decode cX1_quiet 26 = .ok (.istore 5, 2) := dk_54 5 (dk_at dksX1_quiet_1 3 rfl rfl)
theorem dX1_quiet_28 : decode cX1_quiet 28 = .ok (.iload 5, 2) := dk_21 5 (dk_at dksX1_quiet_1 5 rfl rfl)
theorem dX1_quiet_30 : decode cX1_quiet 30 = .ok (.aload_n 0, 1) := dk_42 (dk_at dksX1_quiet_1 7 rfl rfl)
theorem dX1_quiet_31 : decode cX1_quiet 31 = .ok (.invokevirtual 112, 3) := dk_182 0 112 (dk_at dksX1_quiet_1 8 rfl rfl)
theorem dX1_quiet_34 : decode cX1_quiet 34 = .ok (.invokevirtual 251, 3) := dk_182 0 251 (dk_at dksX1_quiet_1 11 rfl rfl)
theorem dX1_quiet_37 : decode cX1_quiet 37 = .ok (.if_icmp .ge 73, 3) := dk_162 0 73 (dk_at dksX1_quiet_1 14 rfl rfl)
theorem dX1_quiet_40 : decode cX1_quiet 40 = .ok (.aload_n 0, 1) := dk_42 (dk_at dksX1_quiet_1 17 rfl rfl)
theorem dX1_quiet_41 : decode cX1_quiet 41 = .ok (.getfield 44, 3) := dk_180 0 44 (dk_at dksX1_quiet_1 18 rfl rfl)
theorem dX1_quiet_44 : decode cX1_quiet 44 = .ok (.aload_n 0, 1) := dk_42 (dk_at dksX1_quiet_1 21 rfl rfl)
theorem dX1_quiet_45 : decode cX1_quiet 45 = .ok (.getfield 40, 3) := dk_180 0 40 (dk_at dksX1_quiet_2 0 rfl rfl)
theorem dX1_quiet_48 : decode cX1_quiet 48 = .ok (.invokevirtual 227, 3) := dk_182 0 227 (dk_at dksX1_quiet_2 3 rfl rfl)
theorem dX1_quiet_51 : decode cX1_quiet 51 = .ok (.pop, 1) := dk_87 (dk_at dksX1_quiet_2 6 rfl rfl)
theorem dX1_quiet_52 : decode cX1_quiet 52 = .ok (.aload_n 0, 1) := dk_42 (dk_at dksX1_quiet_2 7 rfl rfl)
theorem dX1_quiet_53 : decode cX1_quiet 53 = .ok (.getfield 44, 3) := dk_180 0 44 (dk_at dksX1_quiet_2 8 rfl rfl)
theorem dX1_quiet_56 : decode cX1_quiet 56 = .ok (.getfield 173, 3) := dk_180 0 173 (dk_at dksX1_quiet_2 11 rfl rfl)
theorem dX1_quiet_59 : decode cX1_quiet 59 = .ok (.iload_n 1, 1) := dk_27 (dk_at dksX1_quiet_2 14 rfl rfl)
theorem dX1_quiet_60 : decode cX1_quiet 60 = .ok (.iload 5, 2) := dk_21 5 (dk_at dksX1_quiet_2 15 rfl rfl)
theorem dX1_quiet_62 : decode cX1_quiet 62 = .ok (.iastore, 1) := dk_79 (dk_at dksX1_quiet_2 17 rfl rfl)
theorem dX1_quiet_63 : decode cX1_quiet 63 = .ok (.aload_n 0, 1) := dk_42 (dk_at dksX1_quiet_2 18 rfl rfl)
theorem dX1_quiet_64 : decode cX1_quiet 64 = .ok (.getfield 44, 3) := dk_180 0 44 (dk_at dksX1_quiet_2 19 rfl rfl)
theorem dX1_quiet_67 : decode cX1_quiet 67 = .ok (.dup, 1) := dk_89 (dk_at dksX1_quiet_2 22 rfl rfl)
theorem dX1_quiet_68 : decode cX1_quiet 68 = .ok (.getfield 176, 3) := dk_180 0 176 (dk_at dksX1_quiet_3 0 rfl rfl)
theorem dX1_quiet_71 : decode cX1_quiet 71 = .ok (.iconst 1, 1) := dk_4 (dk_at dksX1_quiet_3 3 rfl rfl)
theorem dX1_quiet_72 : decode cX1_quiet 72 = .ok (.iload_n 1, 1) := dk_27 (dk_at dksX1_quiet_3 4 rfl rfl)
theorem dX1_quiet_73 : decode cX1_quiet 73 = .ok (.ishl, 1) := dk_120 (dk_at dksX1_quiet_3 5 rfl rfl)
theorem dX1_quiet_74 : decode cX1_quiet 74 = .ok (.iconst (-1), 1) := dk_2 (dk_at dksX1_quiet_3 6 rfl rfl)
theorem dX1_quiet_75 : decode cX1_quiet 75 = .ok (.ixor, 1) := dk_130 (dk_at dksX1_quiet_3 7 rfl rfl)
theorem dX1_quiet_76 : decode cX1_quiet 76 = .ok (.iand, 1) := dk_126 (dk_at dksX1_quiet_3 8 rfl rfl)
theorem dX1_quiet_77 : decode cX1_quiet 77 = .ok (.putfield 176, 3) := dk_181 0 176 (dk_at dksX1_quiet_3 9 rfl rfl)
theorem dX1_quiet_80 : decode cX1_quiet 80 = .ok (.aload_n 0, 1) := dk_42 (dk_at dksX1_quiet_3 12 rfl rfl)
theorem dX1_quiet_81 : decode cX1_quiet 81 = .ok (.iload_n 1, 1) := dk_27 (dk_at dksX1_quiet_3 13 rfl rfl)
theorem dX1_quiet_82 : decode cX1_quiet 82 = .ok (.invokevirtual 248, 3) := dk_182 0 248 (dk_at dksX1_quiet_3 14 rfl rfl)
theorem dX1_quiet_85 : decode cX1_quiet 85 = .ok (.ifCond .eq 6, 3) := dk_153 0 6 (dk_at dksX1_quiet_3 17 rfl rfl)
theorem dX1_quiet_88 : decode cX1_quiet 88 = .ok (.goto 16, 3) := dk_167 0 16 (dk_at dksX1_quiet_3 20 rfl rfl)
theorem dX1_quiet_91 : decode cX1_quiet 91 = .ok (.iinc 3 1, 3) := dk_132 3 1 (dk_at dksX1_quiet_4 0 rfl rfl)
theorem dX1_quiet_94 : decode cX1_quiet 94 = .ok (.iload 4, 2) := dk_21 4 (dk_at dksX1_quiet_4 3 rfl rfl)
theorem dX1_quiet_96 : decode cX1_quiet 96 = .ok (.iconst (-1), 1) := dk_2 (dk_at dksX1_quiet_4 5 rfl rfl)
theorem dX1_quiet_97 : decode cX1_quiet 97 = .ok (.if_icmp .ne 7, 3) := dk_160 0 7 (dk_at dksX1_quiet_4 6 rfl rfl)
theorem dX1_quiet_100 : decode cX1_quiet 100 = .ok (.iload 5, 2) := dk_21 5 (dk_at dksX1_quiet_4 9 rfl rfl)
theorem dX1_quiet_102 : decode cX1_quiet 102 = .ok (.istore 4, 2) := dk_54 4 (dk_at dksX1_quiet_4 11 rfl rfl)
theorem dX1_quiet_104 : decode cX1_quiet 104 = .ok (.iinc 5 1, 3) := dk_132 5 1 (dk_at dksX1_quiet_4 13 rfl rfl)
theorem dX1_quiet_107 : decode cX1_quiet 107 = .ok (.goto (-79), 3) := dk_167 255 177 (dk_at dksX1_quiet_4 16 rfl rfl)
theorem dX1_quiet_110 : decode cX1_quiet 110 = .ok (.iload_n 2, 1) := dk_28 (dk_at dksX1_quiet_4 19 rfl rfl)
theorem dX1_quiet_111 : decode cX1_quiet 111 = .ok (.ifCond .ne 7, 3) := dk_154 0 7 (dk_at dksX1_quiet_4 20 rfl rfl)
theorem dX1_quiet_114 : decode cX1_quiet 114 = .ok (.iload_n 3, 1) := dk_29 (dk_at dksX1_quiet_4 23 rfl rfl)
theorem dX1_quiet_115 : decode cX1_quiet 115 = .ok (.goto 5, 3) := dk_167 0 5 (dk_at dksX1_quiet_5 0 rfl rfl)
theorem dX1_quiet_118 : decode cX1_quiet 118 = .ok (.iload 4, 2) := dk_21 4 (dk_at dksX1_quiet_5 3 rfl rfl)
theorem dX1_quiet_120 : decode cX1_quiet 120 = .ok (.ireturn, 1) := dk_172 (dk_at dksX1_quiet_5 5 rfl rfl)
def dkwX1_bush_3 : List UInt8 := [162, 0, 6, 21, 4, 61, 132, 3, 1, 167, 255, 195, 28, 172]
abbrev dktX1_bush_3 : List UInt8 := dkwX1_bush_3 ++ []
def dkwX1_bush_2 : List UInt8 := [180, 0, 40, 180, 0, 173, 27, 46, 29, 182, 0, 254, 54, 4, 28, 2, 159, 0, 9, 21, 4, 28]
abbrev dktX1_bush_2 : List UInt8 := dkwX1_bush_2 ++ dktX1_bush_3
def dkwX1_bush_1 : List UInt8 := [162, 0, 56, 42, 182, 0, 112, 29, 182, 0, 182, 154, 0, 6, 167, 0, 36, 42, 182, 0, 112, 42]
abbrev dktX1_bush_1 : List UInt8 := dkwX1_bush_1 ++ dktX1_bush_2
def dkwX1_bush_0 : List UInt8 := [42, 27, 182, 0, 140, 154, 0, 5, 2, 172, 2, 61, 3, 62, 29, 42, 182, 0, 112, 182, 0, 251]
abbrev dktX1_bush_0 : List UInt8 := dkwX1_bush_0 ++ dktX1_bush_1
theorem dksX1_bush_0 : cX1_bush.data.toList.drop 0 = dktX1_bush_0 := by decide +kernel
theorem dksX1_bush_1 : cX1_bush.data.toList.drop 22 = dktX1_bush_1 := dk_seg dksX1_bush_0 22 rfl rfl
theorem dksX1_bush_2 : cX1_bush.data.toList.drop 44 = dktX1_bush_2 := dk_seg dksX1_bush_1 22 rfl rfl
theorem dksX1_bush_3 : cX1_bush.data.toList.drop 66 = dktX1_bush_3 := dk_seg dksX1_bush_2 22 rfl rfl
theorem dX1_bush_0 : decode cX1_bush 0 = .ok (.aload_n 0, 1) := dk_42 (dk_at dksX1_bush_0 0 rfl rfl)
theorem dX1_bush_1 : decode cX1_bush 1 = .ok (.iload_n 1, 1) := dk_27 (dk_at dksX1_bush_0 1 rfl rfl)
theorem dX1_bush_2 : decode cX1_bush 2 = .ok (.invokevirtual 140, 3) := dk_182 0 140 (dk_at dksX1_bush_0 2 rfl rfl)
theorem dX1_bush_5 : decode cX1_bush 5 = .ok (.ifCond .ne 5, 3) := dk_154 0 5 (dk_at dksX1_bush_0 5 rfl rfl)
theorem dX1_bush_8 : decode cX1_bush 8 = .ok (.iconst (-1), 1) := dk_2 (dk_at dksX1_bush_0 8 rfl rfl)
theorem dX1_bush_9 : decode cX1_bush 9 = .ok (.ireturn, 1) := dk_172 (dk_at dksX1_bush_0 9 rfl rfl)
theorem dX1_bush_10 : decode cX1_bush 10 = .ok (.iconst (-1), 1) := dk_2 (dk_at dksX1_bush_0 10 rfl rfl)
theorem dX1_bush_11 : decode cX1_bush 11 = .ok (.istore_n 2, 1) := dk_61 (dk_at dksX1_bush_0 11 rfl rfl)
theorem dX1_bush_12 : decode cX1_bush 12 = .ok (.iconst 0, 1) := dk_3 (dk_at dksX1_bush_0 12 rfl rfl)
theorem dX1_bush_13 : decode cX1_bush 13 = .ok (.istore_n 3, 1) := dk_62 (dk_at dksX1_bush_0 13 rfl rfl)
theorem dX1_bush_14 : decode cX1_bush 14 = .ok (.iload_n 3, 1) := dk_29 (dk_at dksX1_bush_0 14 rfl rfl)
theorem dX1_bush_15 : decode cX1_bush 15 = .ok (.aload_n 0, 1) := dk_42 (dk_at dksX1_bush_0 15 rfl rfl)
theorem dX1_bush_16 : decode cX1_bush 16 = .ok (.invokevirtual 112, 3) := dk_182 0 112 (dk_at dksX1_bush_0 16 rfl rfl)
theorem dX1_bush_19 : decode cX1_bush 19 = .ok (.invokevirtual 251, 3) := dk_182 0 251 (dk_at dksX1_bush_0 19 rfl rfl)
theorem dX1_bush_22 : decode cX1_bush 22 = .ok (.if_icmp .ge 56, 3) := dk_162 0 56 (dk_at dksX1_bush_1 0 rfl rfl)
theorem dX1_bush_25 : decode cX1_bush 25 = .ok (.aload_n 0, 1) := dk_42 (dk_at dksX1_bush_1 3 rfl rfl)
theorem dX1_bush_26 : decode cX1_bush 26 = .ok (.invokevirtual 112, 3) := dk_182 0 112 (dk_at dksX1_bush_1 4 rfl rfl)
theorem dX1_bush_29 : decode cX1_bush 29 = .ok (.iload_n 3, 1) := dk_29 (dk_at dksX1_bush_1 7 rfl rfl)
theorem dX1_bush_30 : decode cX1_bush 30 = .ok (.invokevirtual 182, 3) := dk_182 0 182 (dk_at dksX1_bush_1 8 rfl rfl)
theorem dX1_bush_33 : decode cX1_bush 33 = .ok (.ifCond .ne 6, 3) := dk_154 0 6 (dk_at dksX1_bush_1 11 rfl rfl)
theorem dX1_bush_36 : decode cX1_bush 36 = .ok (.goto 36, 3) := dk_167 0 36 (dk_at dksX1_bush_1 14 rfl rfl)
theorem dX1_bush_39 : decode cX1_bush 39 = .ok (.aload_n 0, 1) := dk_42 (dk_at dksX1_bush_1 17 rfl rfl)
theorem dX1_bush_40 : decode cX1_bush 40 = .ok (.invokevirtual 112, 3) := dk_182 0 112 (dk_at dksX1_bush_1 18 rfl rfl)
theorem dX1_bush_43 : decode cX1_bush 43 = .ok (.aload_n 0, 1) := dk_42 (dk_at dksX1_bush_1 21 rfl rfl)
theorem dX1_bush_44 : decode cX1_bush 44 = .ok (.getfield 40, 3) := dk_180 0 40 (dk_at dksX1_bush_2 0 rfl rfl)
theorem dX1_bush_47 : decode cX1_bush 47 = .ok (.getfield 173, 3) := dk_180 0 173 (dk_at dksX1_bush_2 3 rfl rfl)
theorem dX1_bush_50 : decode cX1_bush 50 = .ok (.iload_n 1, 1) := dk_27 (dk_at dksX1_bush_2 6 rfl rfl)
theorem dX1_bush_51 : decode cX1_bush 51 = .ok (.iaload, 1) := dk_46 (dk_at dksX1_bush_2 7 rfl rfl)
theorem dX1_bush_52 : decode cX1_bush 52 = .ok (.iload_n 3, 1) := dk_29 (dk_at dksX1_bush_2 8 rfl rfl)
theorem dX1_bush_53 : decode cX1_bush 53 = .ok (.invokevirtual 254, 3) := dk_182 0 254 (dk_at dksX1_bush_2 9 rfl rfl)
theorem dX1_bush_56 : decode cX1_bush 56 = .ok (.istore 4, 2) := dk_54 4 (dk_at dksX1_bush_2 12 rfl rfl)
theorem dX1_bush_58 : decode cX1_bush 58 = .ok (.iload_n 2, 1) := dk_28 (dk_at dksX1_bush_2 14 rfl rfl)
theorem dX1_bush_59 : decode cX1_bush 59 = .ok (.iconst (-1), 1) := dk_2 (dk_at dksX1_bush_2 15 rfl rfl)
theorem dX1_bush_60 : decode cX1_bush 60 = .ok (.if_icmp .eq 9, 3) := dk_159 0 9 (dk_at dksX1_bush_2 16 rfl rfl)
theorem dX1_bush_63 : decode cX1_bush 63 = .ok (.iload 4, 2) := dk_21 4 (dk_at dksX1_bush_2 19 rfl rfl)
theorem dX1_bush_65 : decode cX1_bush 65 = .ok (.iload_n 2, 1) := dk_28 (dk_at dksX1_bush_2 21 rfl rfl)
theorem dX1_bush_66 : decode cX1_bush 66 = .ok (.if_icmp .ge 6, 3) := dk_162 0 6 (dk_at dksX1_bush_3 0 rfl rfl)
theorem dX1_bush_69 : decode cX1_bush 69 = .ok (.iload 4, 2) := dk_21 4 (dk_at dksX1_bush_3 3 rfl rfl)
theorem dX1_bush_71 : decode cX1_bush 71 = .ok (.istore_n 2, 1) := dk_61 (dk_at dksX1_bush_3 5 rfl rfl)
theorem dX1_bush_72 : decode cX1_bush 72 = .ok (.iinc 3 1, 3) := dk_132 3 1 (dk_at dksX1_bush_3 6 rfl rfl)
theorem dX1_bush_75 : decode cX1_bush 75 = .ok (.goto (-61), 3) := dk_167 255 195 (dk_at dksX1_bush_3 9 rfl rfl)
theorem dX1_bush_78 : decode cX1_bush 78 = .ok (.iload_n 2, 1) := dk_28 (dk_at dksX1_bush_3 12 rfl rfl)
theorem dX1_bush_79 : decode cX1_bush 79 = .ok (.ireturn, 1) := dk_172 (dk_at dksX1_bush_3 13 rfl rfl)
def dkwX1_shortest_0 : List UInt8 := [42, 27, 28, 182, 1, 2, 153, 0, 16, 42, 180, 0, 68, 27, 28, 2, 182, 1, 5, 167, 0, 4, 2, 172]
abbrev dktX1_shortest_0 : List UInt8 := dkwX1_shortest_0 ++ []
theorem dksX1_shortest_0 : cX1_shortest.data.toList.drop 0 = dktX1_shortest_0 := by decide +kernel
theorem dX1_shortest_0 : decode cX1_shortest 0 = .ok (.aload_n 0, 1) := dk_42 (dk_at dksX1_shortest_0 0 rfl rfl)
theorem dX1_shortest_1 : decode cX1_shortest 1 = .ok (.iload_n 1, 1) := dk_27 (dk_at dksX1_shortest_0 1 rfl rfl)
theorem dX1_shortest_2 : decode cX1_shortest 2 = .ok (.iload_n 2, 1) := dk_28 (dk_at dksX1_shortest_0 2 rfl rfl)
theorem dX1_shortest_3 : decode cX1_shortest 3 = .ok (.invokevirtual 258, 3) := dk_182 1 2 (dk_at dksX1_shortest_0 3 rfl rfl)
theorem dX1_shortest_6 : decode cX1_shortest 6 = .ok (.ifCond .eq 16, 3) := dk_153 0 16 (dk_at dksX1_shortest_0 6 rfl rfl)
theorem dX1_shortest_9 : decode cX1_shortest 9 = .ok (.aload_n 0, 1) := dk_42 (dk_at dksX1_shortest_0 9 rfl rfl)
theorem dX1_shortest_10 : decode cX1_shortest 10 = .ok (.getfield 68, 3) := dk_180 0 68 (dk_at dksX1_shortest_0 10 rfl rfl)
theorem dX1_shortest_13 : decode cX1_shortest 13 = .ok (.iload_n 1, 1) := dk_27 (dk_at dksX1_shortest_0 13 rfl rfl)
theorem dX1_shortest_14 : decode cX1_shortest 14 = .ok (.iload_n 2, 1) := dk_28 (dk_at dksX1_shortest_0 14 rfl rfl)
theorem dX1_shortest_15 : decode cX1_shortest 15 = .ok (.iconst (-1), 1) := dk_2 (dk_at dksX1_shortest_0 15 rfl rfl)
theorem dX1_shortest_16 : decode cX1_shortest 16 = .ok (.invokevirtual 261, 3) := dk_182 1 5 (dk_at dksX1_shortest_0 16 rfl rfl)
theorem dX1_shortest_19 : decode cX1_shortest 19 = .ok (.goto 4, 3) := dk_167 0 4 (dk_at dksX1_shortest_0 19 rfl rfl)
theorem dX1_shortest_22 : decode cX1_shortest 22 = .ok (.iconst (-1), 1) := dk_2 (dk_at dksX1_shortest_0 22 rfl rfl)
theorem dX1_shortest_23 : decode cX1_shortest 23 = .ok (.ireturn, 1) := dk_172 (dk_at dksX1_shortest_0 23 rfl rfl)
def dkwX1_mayGet_2 : List UInt8 := [167, 0, 4, 3, 172]
abbrev dktX1_mayGet_2 : List UInt8 := dkwX1_mayGet_2 ++ []
def dkwX1_mayGet_1 : List UInt8 := [184, 0, 147, 153, 0, 23, 42, 180, 0, 40, 180, 0, 179, 27, 46, 28, 184, 0, 147, 154, 0, 7, 4]
abbrev dktX1_mayGet_1 : List UInt8 := dkwX1_mayGet_1 ++ dktX1_mayGet_2
def dkwX1_mayGet_0 : List UInt8 := [42, 27, 182, 0, 207, 153, 0, 45, 42, 28, 182, 0, 151, 153, 0, 37, 42, 180, 0, 40, 180, 0, 170, 28]
abbrev dktX1_mayGet_0 : List UInt8 := dkwX1_mayGet_0 ++ dktX1_mayGet_1
theorem dksX1_mayGet_0 : cX1_mayGet.data.toList.drop 0 = dktX1_mayGet_0 := by decide +kernel
theorem dksX1_mayGet_1 : cX1_mayGet.data.toList.drop 24 = dktX1_mayGet_1 := dk_seg dksX1_mayGet_0 24 rfl rfl
theorem dksX1_mayGet_2 : cX1_mayGet.data.toList.drop 47 = dktX1_mayGet_2 := dk_seg dksX1_mayGet_1 23 rfl rfl
theorem dX1_mayGet_0 : decode cX1_mayGet 0 = .ok (.aload_n 0, 1) := dk_42 (dk_at dksX1_mayGet_0 0 rfl rfl)
theorem dX1_mayGet_1 : decode cX1_mayGet 1 = .ok (.iload_n 1, 1) := dk_27 (dk_at dksX1_mayGet_0 1 rfl rfl)
theorem dX1_mayGet_2 : decode cX1_mayGet 2 = .ok (.invokevirtual 207, 3) := dk_182 0 207 (dk_at dksX1_mayGet_0 2 rfl rfl)
theorem dX1_mayGet_5 : decode cX1_mayGet 5 = .ok (.ifCond .eq 45, 3) := dk_153 0 45 (dk_at dksX1_mayGet_0 5 rfl rfl)
theorem dX1_mayGet_8 : decode cX1_mayGet 8 = .ok (.aload_n 0, 1) := dk_42 (dk_at dksX1_mayGet_0 8 rfl rfl)
theorem dX1_mayGet_9 : decode cX1_mayGet 9 = .ok (.iload_n 2, 1) := dk_28 (dk_at dksX1_mayGet_0 9 rfl rfl)
theorem dX1_mayGet_10 : decode cX1_mayGet 10 = .ok (.invokevirtual 151, 3) := dk_182 0 151 (dk_at dksX1_mayGet_0 10 rfl rfl)
theorem dX1_mayGet_13 : decode cX1_mayGet 13 = .ok (.ifCond .eq 37, 3) := dk_153 0 37 (dk_at dksX1_mayGet_0 13 rfl rfl)
theorem dX1_mayGet_16 : decode cX1_mayGet 16 = .ok (.aload_n 0, 1) := dk_42 (dk_at dksX1_mayGet_0 16 rfl rfl)
theorem dX1_mayGet_17 : decode cX1_mayGet 17 = .ok (.getfield 40, 3) := dk_180 0 40 (dk_at dksX1_mayGet_0 17 rfl rfl)
theorem dX1_mayGet_20 : decode cX1_mayGet 20 = .ok (.getfield 170, 3) := dk_180 0 170 (dk_at dksX1_mayGet_0 20 rfl rfl)
theorem dX1_mayGet_23 : decode cX1_mayGet 23 = .ok (.iload_n 2, 1) := dk_28 (dk_at dksX1_mayGet_0 23 rfl rfl)
theorem dX1_mayGet_24 : decode cX1_mayGet 24 = .ok (.invokestatic 147, 3) := dk_184 0 147 (dk_at dksX1_mayGet_1 0 rfl rfl)
theorem dX1_mayGet_27 : decode cX1_mayGet 27 = .ok (.ifCond .eq 23, 3) := dk_153 0 23 (dk_at dksX1_mayGet_1 3 rfl rfl)
theorem dX1_mayGet_30 : decode cX1_mayGet 30 = .ok (.aload_n 0, 1) := dk_42 (dk_at dksX1_mayGet_1 6 rfl rfl)
theorem dX1_mayGet_31 : decode cX1_mayGet 31 = .ok (.getfield 40, 3) := dk_180 0 40 (dk_at dksX1_mayGet_1 7 rfl rfl)
theorem dX1_mayGet_34 : decode cX1_mayGet 34 = .ok (.getfield 179, 3) := dk_180 0 179 (dk_at dksX1_mayGet_1 10 rfl rfl)
theorem dX1_mayGet_37 : decode cX1_mayGet 37 = .ok (.iload_n 1, 1) := dk_27 (dk_at dksX1_mayGet_1 13 rfl rfl)
theorem dX1_mayGet_38 : decode cX1_mayGet 38 = .ok (.iaload, 1) := dk_46 (dk_at dksX1_mayGet_1 14 rfl rfl)
theorem dX1_mayGet_39 : decode cX1_mayGet 39 = .ok (.iload_n 2, 1) := dk_28 (dk_at dksX1_mayGet_1 15 rfl rfl)
theorem dX1_mayGet_40 : decode cX1_mayGet 40 = .ok (.invokestatic 147, 3) := dk_184 0 147 (dk_at dksX1_mayGet_1 16 rfl rfl)
theorem dX1_mayGet_43 : decode cX1_mayGet 43 = .ok (.ifCond .ne 7, 3) := dk_154 0 7 (dk_at dksX1_mayGet_1 19 rfl rfl)
theorem dX1_mayGet_46 : decode cX1_mayGet 46 = .ok (.iconst 1, 1) := dk_4 (dk_at dksX1_mayGet_1 22 rfl rfl)
theorem dX1_mayGet_47 : decode cX1_mayGet 47 = .ok (.goto 4, 3) := dk_167 0 4 (dk_at dksX1_mayGet_2 0 rfl rfl)
theorem dX1_mayGet_50 : decode cX1_mayGet 50 = .ok (.iconst 0, 1) := dk_3 (dk_at dksX1_mayGet_2 3 rfl rfl)
theorem dX1_mayGet_51 : decode cX1_mayGet 51 = .ok (.ireturn, 1) := dk_172 (dk_at dksX1_mayGet_2 4 rfl rfl)
def dkwX1_first_1 : List UInt8 := [21, 4, 182, 1, 5, 29, 159, 0, 9, 132, 4, 1, 167, 255, 238, 21, 4, 172]
abbrev dktX1_first_1 : List UInt8 := dkwX1_first_1 ++ []
def dkwX1_first_0 : List UInt8 := [42, 27, 28, 182, 1, 9, 62, 29, 2, 160, 0, 5, 2, 172, 3, 54, 4, 42, 180, 0, 68, 27, 28]
abbrev dktX1_first_0 : List UInt8 := dkwX1_first_0 ++ dktX1_first_1
theorem dksX1_first_0 : cX1_first.data.toList.drop 0 = dktX1_first_0 := by decide +kernel
theorem dksX1_first_1 : cX1_first.data.toList.drop 23 = dktX1_first_1 := dk_seg dksX1_first_0 23 rfl rfl
theorem dX1_first_0 : decode cX1_first 0 = .ok (.aload_n 0, 1) := dk_42 (dk_at dksX1_first_0 0 rfl rfl)
theorem dX1_first_1 : decode cX1_first 1 = .ok (.iload_n 1, 1) := dk_27 (dk_at dksX1_first_0 1 rfl rfl)
theorem dX1_first_2 : decode cX1_first 2 = .ok (.iload_n 2, 1) := dk_28 (dk_at dksX1_first_0 2 rfl rfl)
theorem dX1_first_3 : decode cX1_first 3 = .ok (.invokevirtual 265, 3) := dk_182 1 9 (dk_at dksX1_first_0 3 rfl rfl)
theorem dX1_first_6 : decode cX1_first 6 = .ok (.istore_n 3, 1) := dk_62 (dk_at dksX1_first_0 6 rfl rfl)
theorem dX1_first_7 : decode cX1_first 7 = .ok (.iload_n 3, 1) := dk_29 (dk_at dksX1_first_0 7 rfl rfl)
theorem dX1_first_8 : decode cX1_first 8 = .ok (.iconst (-1), 1) := dk_2 (dk_at dksX1_first_0 8 rfl rfl)
theorem dX1_first_9 : decode cX1_first 9 = .ok (.if_icmp .ne 5, 3) := dk_160 0 5 (dk_at dksX1_first_0 9 rfl rfl)
theorem dX1_first_12 : decode cX1_first 12 = .ok (.iconst (-1), 1) := dk_2 (dk_at dksX1_first_0 12 rfl rfl)
theorem dX1_first_13 : decode cX1_first 13 = .ok (.ireturn, 1) := dk_172 (dk_at dksX1_first_0 13 rfl rfl)
theorem dX1_first_14 : decode cX1_first 14 = .ok (.iconst 0, 1) := dk_3 (dk_at dksX1_first_0 14 rfl rfl)
theorem dX1_first_15 : decode cX1_first 15 = .ok (.istore 4, 2) := dk_54 4 (dk_at dksX1_first_0 15 rfl rfl)
theorem dX1_first_17 : decode cX1_first 17 = .ok (.aload_n 0, 1) := dk_42 (dk_at dksX1_first_0 17 rfl rfl)
theorem dX1_first_18 : decode cX1_first 18 = .ok (.getfield 68, 3) := dk_180 0 68 (dk_at dksX1_first_0 18 rfl rfl)
theorem dX1_first_21 : decode cX1_first 21 = .ok (.iload_n 1, 1) := dk_27 (dk_at dksX1_first_0 21 rfl rfl)
theorem dX1_first_22 : decode cX1_first 22 = .ok (.iload_n 2, 1) := dk_28 (dk_at dksX1_first_0 22 rfl rfl)
theorem dX1_first_23 : decode cX1_first 23 = .ok (.iload 4, 2) := dk_21 4 (dk_at dksX1_first_1 0 rfl rfl)
theorem dX1_first_25 : decode cX1_first 25 = .ok (.invokevirtual 261, 3) := dk_182 1 5 (dk_at dksX1_first_1 2 rfl rfl)
theorem dX1_first_28 : decode cX1_first 28 = .ok (.iload_n 3, 1) := dk_29 (dk_at dksX1_first_1 5 rfl rfl)
theorem dX1_first_29 : decode cX1_first 29 = .ok (.if_icmp .eq 9, 3) := dk_159 0 9 (dk_at dksX1_first_1 6 rfl rfl)
theorem dX1_first_32 : decode cX1_first 32 = .ok (.iinc 4 1, 3) := dk_132 4 1 (dk_at dksX1_first_1 9 rfl rfl)
theorem dX1_first_35 : decode cX1_first 35 = .ok (.goto (-18), 3) := dk_167 255 238 (dk_at dksX1_first_1 12 rfl rfl)
theorem dX1_first_38 : decode cX1_first 38 = .ok (.iload 4, 2) := dk_21 4 (dk_at dksX1_first_1 15 rfl rfl)
theorem dX1_first_40 : decode cX1_first 40 = .ok (.ireturn, 1) := dk_172 (dk_at dksX1_first_1 17 rfl rfl)
def dkwX1_soonest_2 : List UInt8 := [132, 4, 1, 167, 255, 214, 28, 172]
abbrev dktX1_soonest_2 : List UInt8 := dkwX1_soonest_2 ++ []
def dkwX1_soonest_1 : List UInt8 := [54, 5, 21, 5, 2, 159, 0, 18, 21, 5, 29, 161, 0, 6, 167, 0, 9, 21, 4, 61, 21, 5, 62]
abbrev dktX1_soonest_1 : List UInt8 := dkwX1_soonest_1 ++ dktX1_soonest_2
def dkwX1_soonest_0 : List UInt8 := [2, 61, 16, 31, 62, 3, 54, 4, 21, 4, 42, 182, 0, 132, 162, 0, 39, 42, 27, 21, 4, 182, 1, 9]
abbrev dktX1_soonest_0 : List UInt8 := dkwX1_soonest_0 ++ dktX1_soonest_1
theorem dksX1_soonest_0 : cX1_soonest.data.toList.drop 0 = dktX1_soonest_0 := by decide +kernel
theorem dksX1_soonest_1 : cX1_soonest.data.toList.drop 24 = dktX1_soonest_1 := dk_seg dksX1_soonest_0 24 rfl rfl
theorem dksX1_soonest_2 : cX1_soonest.data.toList.drop 47 = dktX1_soonest_2 := dk_seg dksX1_soonest_1 23 rfl rfl
theorem dX1_soonest_0 : decode cX1_soonest 0 = .ok (.iconst (-1), 1) := dk_2 (dk_at dksX1_soonest_0 0 rfl rfl)
theorem dX1_soonest_1 : decode cX1_soonest 1 = .ok (.istore_n 2, 1) := dk_61 (dk_at dksX1_soonest_0 1 rfl rfl)
theorem dX1_soonest_2 : decode cX1_soonest 2 = .ok (.bipush 31, 2) := dk_16 31 (dk_at dksX1_soonest_0 2 rfl rfl)
theorem dX1_soonest_4 : decode cX1_soonest 4 = .ok (.istore_n 3, 1) := dk_62 (dk_at dksX1_soonest_0 4 rfl rfl)
theorem dX1_soonest_5 : decode cX1_soonest 5 = .ok (.iconst 0, 1) := dk_3 (dk_at dksX1_soonest_0 5 rfl rfl)
theorem dX1_soonest_6 : decode cX1_soonest 6 = .ok (.istore 4, 2) := dk_54 4 (dk_at dksX1_soonest_0 6 rfl rfl)
theorem dX1_soonest_8 : decode cX1_soonest 8 = .ok (.iload 4, 2) := dk_21 4 (dk_at dksX1_soonest_0 8 rfl rfl)
theorem dX1_soonest_10 : decode cX1_soonest 10 = .ok (.aload_n 0, 1) := dk_42 (dk_at dksX1_soonest_0 10 rfl rfl)
theorem dX1_soonest_11 : decode cX1_soonest 11 = .ok (.invokevirtual 132, 3) := dk_182 0 132 (dk_at dksX1_soonest_0 11 rfl rfl)
theorem dX1_soonest_14 : decode cX1_soonest 14 = .ok (.if_icmp .ge 39, 3) := dk_162 0 39 (dk_at dksX1_soonest_0 14 rfl rfl)
theorem dX1_soonest_17 : decode cX1_soonest 17 = .ok (.aload_n 0, 1) := dk_42 (dk_at dksX1_soonest_0 17 rfl rfl)
theorem dX1_soonest_18 : decode cX1_soonest 18 = .ok (.iload_n 1, 1) := dk_27 (dk_at dksX1_soonest_0 18 rfl rfl)
theorem dX1_soonest_19 : decode cX1_soonest 19 = .ok (.iload 4, 2) := dk_21 4 (dk_at dksX1_soonest_0 19 rfl rfl)
theorem dX1_soonest_21 : decode cX1_soonest 21 = .ok (.invokevirtual 265, 3) := dk_182 1 9 (dk_at dksX1_soonest_0 21 rfl rfl)
theorem dX1_soonest_24 : decode cX1_soonest 24 = .ok (.istore 5, 2) := dk_54 5 (dk_at dksX1_soonest_1 0 rfl rfl)
theorem dX1_soonest_26 : decode cX1_soonest 26 = .ok (.iload 5, 2) := dk_21 5 (dk_at dksX1_soonest_1 2 rfl rfl)
theorem dX1_soonest_28 : decode cX1_soonest 28 = .ok (.iconst (-1), 1) := dk_2 (dk_at dksX1_soonest_1 4 rfl rfl)
theorem dX1_soonest_29 : decode cX1_soonest 29 = .ok (.if_icmp .eq 18, 3) := dk_159 0 18 (dk_at dksX1_soonest_1 5 rfl rfl)
theorem dX1_soonest_32 : decode cX1_soonest 32 = .ok (.iload 5, 2) := dk_21 5 (dk_at dksX1_soonest_1 8 rfl rfl)
theorem dX1_soonest_34 : decode cX1_soonest 34 = .ok (.iload_n 3, 1) := dk_29 (dk_at dksX1_soonest_1 10 rfl rfl)
theorem dX1_soonest_35 : decode cX1_soonest 35 = .ok (.if_icmp .lt 6, 3) := dk_161 0 6 (dk_at dksX1_soonest_1 11 rfl rfl)
theorem dX1_soonest_38 : decode cX1_soonest 38 = .ok (.goto 9, 3) := dk_167 0 9 (dk_at dksX1_soonest_1 14 rfl rfl)
theorem dX1_soonest_41 : decode cX1_soonest 41 = .ok (.iload 4, 2) := dk_21 4 (dk_at dksX1_soonest_1 17 rfl rfl)
theorem dX1_soonest_43 : decode cX1_soonest 43 = .ok (.istore_n 2, 1) := dk_61 (dk_at dksX1_soonest_1 19 rfl rfl)
theorem dX1_soonest_44 : decode cX1_soonest 44 = .ok (.iload 5, 2) := dk_21 5 (dk_at dksX1_soonest_1 20 rfl rfl)
theorem dX1_soonest_46 : decode cX1_soonest 46 = .ok (.istore_n 3, 1) := dk_62 (dk_at dksX1_soonest_1 22 rfl rfl)
theorem dX1_soonest_47 : decode cX1_soonest 47 = .ok (.iinc 4 1, 3) := dk_132 4 1 (dk_at dksX1_soonest_2 0 rfl rfl)
theorem dX1_soonest_50 : decode cX1_soonest 50 = .ok (.goto (-42), 3) := dk_167 255 214 (dk_at dksX1_soonest_2 3 rfl rfl)
theorem dX1_soonest_53 : decode cX1_soonest 53 = .ok (.iload_n 2, 1) := dk_28 (dk_at dksX1_soonest_2 6 rfl rfl)
theorem dX1_soonest_54 : decode cX1_soonest 54 = .ok (.ireturn, 1) := dk_172 (dk_at dksX1_soonest_2 7 rfl rfl)
def dkwX1_worth_3 : List UInt8 := [167, 0, 9, 21, 4, 61, 21, 5, 62, 132, 4, 1, 167, 255, 184, 28, 172]
abbrev dktX1_worth_3 : List UInt8 := dkwX1_worth_3 ++ []
def dkwX1_worth_2 : List UInt8 := [180, 0, 168, 29, 104, 42, 180, 0, 40, 28, 182, 0, 154, 180, 0, 168, 21, 5, 104, 163, 0, 6]
abbrev dktX1_worth_2 : List UInt8 := dkwX1_worth_2 ++ dktX1_worth_3
def dkwX1_worth_1 : List UInt8 := [54, 5, 21, 5, 2, 159, 0, 48, 28, 2, 159, 0, 37, 42, 180, 0, 40, 21, 4, 182, 0, 154]
abbrev dktX1_worth_1 : List UInt8 := dkwX1_worth_1 ++ dktX1_worth_2
def dkwX1_worth_0 : List UInt8 := [2, 61, 4, 62, 3, 54, 4, 21, 4, 42, 182, 0, 132, 162, 0, 69, 42, 27, 21, 4, 182, 1, 9]
abbrev dktX1_worth_0 : List UInt8 := dkwX1_worth_0 ++ dktX1_worth_1
theorem dksX1_worth_0 : cX1_worth.data.toList.drop 0 = dktX1_worth_0 := by decide +kernel
theorem dksX1_worth_1 : cX1_worth.data.toList.drop 23 = dktX1_worth_1 := dk_seg dksX1_worth_0 23 rfl rfl
theorem dksX1_worth_2 : cX1_worth.data.toList.drop 45 = dktX1_worth_2 := dk_seg dksX1_worth_1 22 rfl rfl
theorem dksX1_worth_3 : cX1_worth.data.toList.drop 67 = dktX1_worth_3 := dk_seg dksX1_worth_2 22 rfl rfl
theorem dX1_worth_0 : decode cX1_worth 0 = .ok (.iconst (-1), 1) := dk_2 (dk_at dksX1_worth_0 0 rfl rfl)
theorem dX1_worth_1 : decode cX1_worth 1 = .ok (.istore_n 2, 1) := dk_61 (dk_at dksX1_worth_0 1 rfl rfl)
theorem dX1_worth_2 : decode cX1_worth 2 = .ok (.iconst 1, 1) := dk_4 (dk_at dksX1_worth_0 2 rfl rfl)
theorem dX1_worth_3 : decode cX1_worth 3 = .ok (.istore_n 3, 1) := dk_62 (dk_at dksX1_worth_0 3 rfl rfl)
theorem dX1_worth_4 : decode cX1_worth 4 = .ok (.iconst 0, 1) := dk_3 (dk_at dksX1_worth_0 4 rfl rfl)
theorem dX1_worth_5 : decode cX1_worth 5 = .ok (.istore 4, 2) := dk_54 4 (dk_at dksX1_worth_0 5 rfl rfl)
theorem dX1_worth_7 : decode cX1_worth 7 = .ok (.iload 4, 2) := dk_21 4 (dk_at dksX1_worth_0 7 rfl rfl)
theorem dX1_worth_9 : decode cX1_worth 9 = .ok (.aload_n 0, 1) := dk_42 (dk_at dksX1_worth_0 9 rfl rfl)
theorem dX1_worth_10 : decode cX1_worth 10 = .ok (.invokevirtual 132, 3) := dk_182 0 132 (dk_at dksX1_worth_0 10 rfl rfl)
theorem dX1_worth_13 : decode cX1_worth 13 = .ok (.if_icmp .ge 69, 3) := dk_162 0 69 (dk_at dksX1_worth_0 13 rfl rfl)
theorem dX1_worth_16 : decode cX1_worth 16 = .ok (.aload_n 0, 1) := dk_42 (dk_at dksX1_worth_0 16 rfl rfl)
theorem dX1_worth_17 : decode cX1_worth 17 = .ok (.iload_n 1, 1) := dk_27 (dk_at dksX1_worth_0 17 rfl rfl)
theorem dX1_worth_18 : decode cX1_worth 18 = .ok (.iload 4, 2) := dk_21 4 (dk_at dksX1_worth_0 18 rfl rfl)
theorem dX1_worth_20 : decode cX1_worth 20 = .ok (.invokevirtual 265, 3) := dk_182 1 9 (dk_at dksX1_worth_0 20 rfl rfl)
theorem dX1_worth_23 : decode cX1_worth 23 = .ok (.istore 5, 2) := dk_54 5 (dk_at dksX1_worth_1 0 rfl rfl)
theorem dX1_worth_25 : decode cX1_worth 25 = .ok (.iload 5, 2) := dk_21 5 (dk_at dksX1_worth_1 2 rfl rfl)
theorem dX1_worth_27 : decode cX1_worth 27 = .ok (.iconst (-1), 1) := dk_2 (dk_at dksX1_worth_1 4 rfl rfl)
theorem dX1_worth_28 : decode cX1_worth 28 = .ok (.if_icmp .eq 48, 3) := dk_159 0 48 (dk_at dksX1_worth_1 5 rfl rfl)
theorem dX1_worth_31 : decode cX1_worth 31 = .ok (.iload_n 2, 1) := dk_28 (dk_at dksX1_worth_1 8 rfl rfl)
theorem dX1_worth_32 : decode cX1_worth 32 = .ok (.iconst (-1), 1) := dk_2 (dk_at dksX1_worth_1 9 rfl rfl)
theorem dX1_worth_33 : decode cX1_worth 33 = .ok (.if_icmp .eq 37, 3) := dk_159 0 37 (dk_at dksX1_worth_1 10 rfl rfl)
theorem dX1_worth_36 : decode cX1_worth 36 = .ok (.aload_n 0, 1) := dk_42 (dk_at dksX1_worth_1 13 rfl rfl)
theorem dX1_worth_37 : decode cX1_worth 37 = .ok (.getfield 40, 3) := dk_180 0 40 (dk_at dksX1_worth_1 14 rfl rfl)
theorem dX1_worth_40 : decode cX1_worth 40 = .ok (.iload 4, 2) := dk_21 4 (dk_at dksX1_worth_1 17 rfl rfl)
theorem dX1_worth_42 : decode cX1_worth 42 = .ok (.invokevirtual 154, 3) := dk_182 0 154 (dk_at dksX1_worth_1 19 rfl rfl)
theorem dX1_worth_45 : decode cX1_worth 45 = .ok (.getfield 168, 3) := dk_180 0 168 (dk_at dksX1_worth_2 0 rfl rfl)
theorem dX1_worth_48 : decode cX1_worth 48 = .ok (.iload_n 3, 1) := dk_29 (dk_at dksX1_worth_2 3 rfl rfl)
theorem dX1_worth_49 : decode cX1_worth 49 = .ok (.imul, 1) := dk_104 (dk_at dksX1_worth_2 4 rfl rfl)
theorem dX1_worth_50 : decode cX1_worth 50 = .ok (.aload_n 0, 1) := dk_42 (dk_at dksX1_worth_2 5 rfl rfl)
theorem dX1_worth_51 : decode cX1_worth 51 = .ok (.getfield 40, 3) := dk_180 0 40 (dk_at dksX1_worth_2 6 rfl rfl)
theorem dX1_worth_54 : decode cX1_worth 54 = .ok (.iload_n 2, 1) := dk_28 (dk_at dksX1_worth_2 9 rfl rfl)
theorem dX1_worth_55 : decode cX1_worth 55 = .ok (.invokevirtual 154, 3) := dk_182 0 154 (dk_at dksX1_worth_2 10 rfl rfl)
theorem dX1_worth_58 : decode cX1_worth 58 = .ok (.getfield 168, 3) := dk_180 0 168 (dk_at dksX1_worth_2 13 rfl rfl)
theorem dX1_worth_61 : decode cX1_worth 61 = .ok (.iload 5, 2) := dk_21 5 (dk_at dksX1_worth_2 16 rfl rfl)
theorem dX1_worth_63 : decode cX1_worth 63 = .ok (.imul, 1) := dk_104 (dk_at dksX1_worth_2 18 rfl rfl)
theorem dX1_worth_64 : decode cX1_worth 64 = .ok (.if_icmp .gt 6, 3) := dk_163 0 6 (dk_at dksX1_worth_2 19 rfl rfl)
theorem dX1_worth_67 : decode cX1_worth 67 = .ok (.goto 9, 3) := dk_167 0 9 (dk_at dksX1_worth_3 0 rfl rfl)
theorem dX1_worth_70 : decode cX1_worth 70 = .ok (.iload 4, 2) := dk_21 4 (dk_at dksX1_worth_3 3 rfl rfl)
theorem dX1_worth_72 : decode cX1_worth 72 = .ok (.istore_n 2, 1) := dk_61 (dk_at dksX1_worth_3 5 rfl rfl)
theorem dX1_worth_73 : decode cX1_worth 73 = .ok (.iload 5, 2) := dk_21 5 (dk_at dksX1_worth_3 6 rfl rfl)
theorem dX1_worth_75 : decode cX1_worth 75 = .ok (.istore_n 3, 1) := dk_62 (dk_at dksX1_worth_3 8 rfl rfl)
theorem dX1_worth_76 : decode cX1_worth 76 = .ok (.iinc 4 1, 3) := dk_132 4 1 (dk_at dksX1_worth_3 9 rfl rfl)
theorem dX1_worth_79 : decode cX1_worth 79 = .ok (.goto (-72), 3) := dk_167 255 184 (dk_at dksX1_worth_3 12 rfl rfl)
theorem dX1_worth_82 : decode cX1_worth 82 = .ok (.iload_n 2, 1) := dk_28 (dk_at dksX1_worth_3 15 rfl rfl)
theorem dX1_worth_83 : decode cX1_worth 83 = .ok (.ireturn, 1) := dk_172 (dk_at dksX1_worth_3 16 rfl rfl)
def dkwX1_team_2 : List UInt8 := [167, 0, 12, 42, 180, 0, 75, 180, 1, 18, 28, 46, 172]
abbrev dktX1_team_2 : List UInt8 := dkwX1_team_2 ++ []
def dkwX1_team_1 : List UInt8 := [16, 254, 172, 42, 180, 0, 75, 27, 182, 1, 12, 87, 28, 2, 160, 0, 13, 42, 180, 0, 75, 180, 1, 15]
abbrev dktX1_team_1 : List UInt8 := dkwX1_team_1 ++ dktX1_team_2
def dkwX1_team_0 : List UInt8 := [27, 4, 16, 30, 184, 0, 134, 153, 0, 16, 28, 2, 159, 0, 14, 42, 28, 182, 0, 140, 154, 0, 6]
abbrev dktX1_team_0 : List UInt8 := dkwX1_team_0 ++ dktX1_team_1
theorem dksX1_team_0 : cX1_team.data.toList.drop 0 = dktX1_team_0 := by decide +kernel
theorem dksX1_team_1 : cX1_team.data.toList.drop 23 = dktX1_team_1 := dk_seg dksX1_team_0 23 rfl rfl
theorem dksX1_team_2 : cX1_team.data.toList.drop 47 = dktX1_team_2 := dk_seg dksX1_team_1 24 rfl rfl
theorem dX1_team_0 : decode cX1_team 0 = .ok (.iload_n 1, 1) := dk_27 (dk_at dksX1_team_0 0 rfl rfl)
theorem dX1_team_1 : decode cX1_team 1 = .ok (.iconst 1, 1) := dk_4 (dk_at dksX1_team_0 1 rfl rfl)
theorem dX1_team_2 : decode cX1_team 2 = .ok (.bipush 30, 2) := dk_16 30 (dk_at dksX1_team_0 2 rfl rfl)
theorem dX1_team_4 : decode cX1_team 4 = .ok (.invokestatic 134, 3) := dk_184 0 134 (dk_at dksX1_team_0 4 rfl rfl)
theorem dX1_team_7 : decode cX1_team 7 = .ok (.ifCond .eq 16, 3) := dk_153 0 16 (dk_at dksX1_team_0 7 rfl rfl)
theorem dX1_team_10 : decode cX1_team 10 = .ok (.iload_n 2, 1) := dk_28 (dk_at dksX1_team_0 10 rfl rfl)
theorem dX1_team_11 : decode cX1_team 11 = .ok (.iconst (-1), 1) := dk_2 (dk_at dksX1_team_0 11 rfl rfl)
theorem dX1_team_12 : decode cX1_team 12 = .ok (.if_icmp .eq 14, 3) := dk_159 0 14 (dk_at dksX1_team_0 12 rfl rfl)
theorem dX1_team_15 : decode cX1_team 15 = .ok (.aload_n 0, 1) := dk_42 (dk_at dksX1_team_0 15 rfl rfl)
theorem dX1_team_16 : decode cX1_team 16 = .ok (.iload_n 2, 1) := dk_28 (dk_at dksX1_team_0 16 rfl rfl)
theorem dX1_team_17 : decode cX1_team 17 = .ok (.invokevirtual 140, 3) := dk_182 0 140 (dk_at dksX1_team_0 17 rfl rfl)
theorem dX1_team_20 : decode cX1_team 20 = .ok (.ifCond .ne 6, 3) := dk_154 0 6 (dk_at dksX1_team_0 20 rfl rfl)
theorem dX1_team_23 : decode cX1_team 23 = .ok (.bipush (-2), 2) := dk_16 254 (dk_at dksX1_team_1 0 rfl rfl)
theorem dX1_team_25 : decode cX1_team 25 = .ok (.ireturn, 1) := dk_172 (dk_at dksX1_team_1 2 rfl rfl)
theorem dX1_team_26 : decode cX1_team 26 = .ok (.aload_n 0, 1) := dk_42 (dk_at dksX1_team_1 3 rfl rfl)
theorem dX1_team_27 : decode cX1_team 27 = .ok (.getfield 75, 3) := dk_180 0 75 (dk_at dksX1_team_1 4 rfl rfl)
theorem dX1_team_30 : decode cX1_team 30 = .ok (.iload_n 1, 1) := dk_27 (dk_at dksX1_team_1 7 rfl rfl)
theorem dX1_team_31 : decode cX1_team 31 = .ok (.invokevirtual 268, 3) := dk_182 1 12 (dk_at dksX1_team_1 8 rfl rfl)
theorem dX1_team_34 : decode cX1_team 34 = .ok (.pop, 1) := dk_87 (dk_at dksX1_team_1 11 rfl rfl)
theorem dX1_team_35 : decode cX1_team 35 = .ok (.iload_n 2, 1) := dk_28 (dk_at dksX1_team_1 12 rfl rfl)
theorem dX1_team_36 : decode cX1_team 36 = .ok (.iconst (-1), 1) := dk_2 (dk_at dksX1_team_1 13 rfl rfl)
theorem dX1_team_37 : decode cX1_team 37 = .ok (.if_icmp .ne 13, 3) := dk_160 0 13 (dk_at dksX1_team_1 14 rfl rfl)
theorem dX1_team_40 : decode cX1_team 40 = .ok (.aload_n 0, 1) := dk_42 (dk_at dksX1_team_1 17 rfl rfl)
theorem dX1_team_41 : decode cX1_team 41 = .ok (.getfield 75, 3) := dk_180 0 75 (dk_at dksX1_team_1 18 rfl rfl)
theorem dX1_team_44 : decode cX1_team 44 = .ok (.getfield 271, 3) := dk_180 1 15 (dk_at dksX1_team_1 21 rfl rfl)
theorem dX1_team_47 : decode cX1_team 47 = .ok (.goto 12, 3) := dk_167 0 12 (dk_at dksX1_team_2 0 rfl rfl)
theorem dX1_team_50 : decode cX1_team 50 = .ok (.aload_n 0, 1) := dk_42 (dk_at dksX1_team_2 3 rfl rfl)
theorem dX1_team_51 : decode cX1_team 51 = .ok (.getfield 75, 3) := dk_180 0 75 (dk_at dksX1_team_2 4 rfl rfl)
theorem dX1_team_54 : decode cX1_team 54 = .ok (.getfield 274, 3) := dk_180 1 18 (dk_at dksX1_team_2 7 rfl rfl)
theorem dX1_team_57 : decode cX1_team 57 = .ok (.iload_n 2, 1) := dk_28 (dk_at dksX1_team_2 10 rfl rfl)
theorem dX1_team_58 : decode cX1_team 58 = .ok (.iaload, 1) := dk_46 (dk_at dksX1_team_2 11 rfl rfl)
theorem dX1_team_59 : decode cX1_team 59 = .ok (.ireturn, 1) := dk_172 (dk_at dksX1_team_2 12 rfl rfl)
def dkwX1_alike_4 : List UInt8 := [167, 255, 177, 132, 2, 1, 167, 255, 159, 27, 172]
abbrev dktX1_alike_4 : List UInt8 := dkwX1_alike_4 ++ []
def dkwX1_alike_3 : List UInt8 := [4, 167, 0, 4, 3, 54, 4, 132, 5, 1, 167, 255, 205, 21, 4, 153, 0, 6, 132, 1, 1, 132, 3, 1]
abbrev dktX1_alike_3 : List UInt8 := dkwX1_alike_3 ++ dktX1_alike_4
def dkwX1_alike_2 : List UInt8 := [182, 0, 154, 21, 5, 182, 1, 21, 42, 180, 0, 40, 29, 182, 0, 154, 21, 5, 182, 1, 21, 160, 0, 7]
abbrev dktX1_alike_2 : List UInt8 := dkwX1_alike_2 ++ dktX1_alike_3
def dkwX1_alike_1 : List UInt8 := [4, 54, 4, 3, 54, 5, 21, 5, 16, 40, 162, 0, 50, 21, 4, 153, 0, 36, 42, 180, 0, 40, 28]
abbrev dktX1_alike_1 : List UInt8 := dkwX1_alike_1 ++ dktX1_alike_2
def dkwX1_alike_0 : List UInt8 := [3, 60, 3, 61, 28, 42, 182, 0, 132, 162, 0, 95, 28, 4, 96, 62, 29, 42, 182, 0, 132, 162, 0, 77]
abbrev dktX1_alike_0 : List UInt8 := dkwX1_alike_0 ++ dktX1_alike_1
theorem dksX1_alike_0 : cX1_alike.data.toList.drop 0 = dktX1_alike_0 := by decide +kernel
theorem dksX1_alike_1 : cX1_alike.data.toList.drop 24 = dktX1_alike_1 := dk_seg dksX1_alike_0 24 rfl rfl
theorem dksX1_alike_2 : cX1_alike.data.toList.drop 47 = dktX1_alike_2 := dk_seg dksX1_alike_1 23 rfl rfl
theorem dksX1_alike_3 : cX1_alike.data.toList.drop 71 = dktX1_alike_3 := dk_seg dksX1_alike_2 24 rfl rfl
theorem dksX1_alike_4 : cX1_alike.data.toList.drop 95 = dktX1_alike_4 := dk_seg dksX1_alike_3 24 rfl rfl
theorem dX1_alike_0 : decode cX1_alike 0 = .ok (.iconst 0, 1) := dk_3 (dk_at dksX1_alike_0 0 rfl rfl)
theorem dX1_alike_1 : decode cX1_alike 1 = .ok (.istore_n 1, 1) := dk_60 (dk_at dksX1_alike_0 1 rfl rfl)
theorem dX1_alike_2 : decode cX1_alike 2 = .ok (.iconst 0, 1) := dk_3 (dk_at dksX1_alike_0 2 rfl rfl)
theorem dX1_alike_3 : decode cX1_alike 3 = .ok (.istore_n 2, 1) := dk_61 (dk_at dksX1_alike_0 3 rfl rfl)
theorem dX1_alike_4 : decode cX1_alike 4 = .ok (.iload_n 2, 1) := dk_28 (dk_at dksX1_alike_0 4 rfl rfl)
theorem dX1_alike_5 : decode cX1_alike 5 = .ok (.aload_n 0, 1) := dk_42 (dk_at dksX1_alike_0 5 rfl rfl)
theorem dX1_alike_6 : decode cX1_alike 6 = .ok (.invokevirtual 132, 3) := dk_182 0 132 (dk_at dksX1_alike_0 6 rfl rfl)
theorem dX1_alike_9 : decode cX1_alike 9 = .ok (.if_icmp .ge 95, 3) := dk_162 0 95 (dk_at dksX1_alike_0 9 rfl rfl)
theorem dX1_alike_12 : decode cX1_alike 12 = .ok (.iload_n 2, 1) := dk_28 (dk_at dksX1_alike_0 12 rfl rfl)
theorem dX1_alike_13 : decode cX1_alike 13 = .ok (.iconst 1, 1) := dk_4 (dk_at dksX1_alike_0 13 rfl rfl)
theorem dX1_alike_14 : decode cX1_alike 14 = .ok (.iadd, 1) := dk_96 (dk_at dksX1_alike_0 14 rfl rfl)
theorem dX1_alike_15 : decode cX1_alike 15 = .ok (.istore_n 3, 1) := dk_62 (dk_at dksX1_alike_0 15 rfl rfl)
theorem dX1_alike_16 : decode cX1_alike 16 = .ok (.iload_n 3, 1) := dk_29 (dk_at dksX1_alike_0 16 rfl rfl)
theorem dX1_alike_17 : decode cX1_alike 17 = .ok (.aload_n 0, 1) := dk_42 (dk_at dksX1_alike_0 17 rfl rfl)
theorem dX1_alike_18 : decode cX1_alike 18 = .ok (.invokevirtual 132, 3) := dk_182 0 132 (dk_at dksX1_alike_0 18 rfl rfl)
theorem dX1_alike_21 : decode cX1_alike 21 = .ok (.if_icmp .ge 77, 3) := dk_162 0 77 (dk_at dksX1_alike_0 21 rfl rfl)
theorem dX1_alike_24 : decode cX1_alike 24 = .ok (.iconst 1, 1) := dk_4 (dk_at dksX1_alike_1 0 rfl rfl)
theorem dX1_alike_25 : decode cX1_alike 25 = .ok (.istore 4, 2) := dk_54 4 (dk_at dksX1_alike_1 1 rfl rfl)
theorem dX1_alike_27 : decode cX1_alike 27 = .ok (.iconst 0, 1) := dk_3 (dk_at dksX1_alike_1 3 rfl rfl)
theorem dX1_alike_28 : decode cX1_alike 28 = .ok (.istore 5, 2) := dk_54 5 (dk_at dksX1_alike_1 4 rfl rfl)
theorem dX1_alike_30 : decode cX1_alike 30 = .ok (.iload 5, 2) := dk_21 5 (dk_at dksX1_alike_1 6 rfl rfl)
theorem dX1_alike_32 : decode cX1_alike 32 = .ok (.bipush 40, 2) := dk_16 40 (dk_at dksX1_alike_1 8 rfl rfl)
theorem dX1_alike_34 : decode cX1_alike 34 = .ok (.if_icmp .ge 50, 3) := dk_162 0 50 (dk_at dksX1_alike_1 10 rfl rfl)
theorem dX1_alike_37 : decode cX1_alike 37 = .ok (.iload 4, 2) := dk_21 4 (dk_at dksX1_alike_1 13 rfl rfl)
theorem dX1_alike_39 : decode cX1_alike 39 = .ok (.ifCond .eq 36, 3) := dk_153 0 36 (dk_at dksX1_alike_1 15 rfl rfl)
theorem dX1_alike_42 : decode cX1_alike 42 = .ok (.aload_n 0, 1) := dk_42 (dk_at dksX1_alike_1 18 rfl rfl)
theorem dX1_alike_43 : decode cX1_alike 43 = .ok (.getfield 40, 3) := dk_180 0 40 (dk_at dksX1_alike_1 19 rfl rfl)
theorem dX1_alike_46 : decode cX1_alike 46 = .ok (.iload_n 2, 1) := dk_28 (dk_at dksX1_alike_1 22 rfl rfl)
theorem dX1_alike_47 : decode cX1_alike 47 = .ok (.invokevirtual 154, 3) := dk_182 0 154 (dk_at dksX1_alike_2 0 rfl rfl)
theorem dX1_alike_50 : decode cX1_alike 50 = .ok (.iload 5, 2) := dk_21 5 (dk_at dksX1_alike_2 3 rfl rfl)
theorem dX1_alike_52 : decode cX1_alike 52 = .ok (.invokevirtual 277, 3) := dk_182 1 21 (dk_at dksX1_alike_2 5 rfl rfl)
theorem dX1_alike_55 : decode cX1_alike 55 = .ok (.aload_n 0, 1) := dk_42 (dk_at dksX1_alike_2 8 rfl rfl)
theorem dX1_alike_56 : decode cX1_alike 56 = .ok (.getfield 40, 3) := dk_180 0 40 (dk_at dksX1_alike_2 9 rfl rfl)
theorem dX1_alike_59 : decode cX1_alike 59 = .ok (.iload_n 3, 1) := dk_29 (dk_at dksX1_alike_2 12 rfl rfl)
theorem dX1_alike_60 : decode cX1_alike 60 = .ok (.invokevirtual 154, 3) := dk_182 0 154 (dk_at dksX1_alike_2 13 rfl rfl)
theorem dX1_alike_63 : decode cX1_alike 63 = .ok (.iload 5, 2) := dk_21 5 (dk_at dksX1_alike_2 16 rfl rfl)
theorem dX1_alike_65 : decode cX1_alike 65 = .ok (.invokevirtual 277, 3) := dk_182 1 21 (dk_at dksX1_alike_2 18 rfl rfl)
theorem dX1_alike_68 : decode cX1_alike 68 = .ok (.if_icmp .ne 7, 3) := dk_160 0 7 (dk_at dksX1_alike_2 21 rfl rfl)
theorem dX1_alike_71 : decode cX1_alike 71 = .ok (.iconst 1, 1) := dk_4 (dk_at dksX1_alike_3 0 rfl rfl)
theorem dX1_alike_72 : decode cX1_alike 72 = .ok (.goto 4, 3) := dk_167 0 4 (dk_at dksX1_alike_3 1 rfl rfl)
theorem dX1_alike_75 : decode cX1_alike 75 = .ok (.iconst 0, 1) := dk_3 (dk_at dksX1_alike_3 4 rfl rfl)
theorem dX1_alike_76 : decode cX1_alike 76 = .ok (.istore 4, 2) := dk_54 4 (dk_at dksX1_alike_3 5 rfl rfl)
theorem dX1_alike_78 : decode cX1_alike 78 = .ok (.iinc 5 1, 3) := dk_132 5 1 (dk_at dksX1_alike_3 7 rfl rfl)
theorem dX1_alike_81 : decode cX1_alike 81 = .ok (.goto (-51), 3) := dk_167 255 205 (dk_at dksX1_alike_3 10 rfl rfl)
theorem dX1_alike_84 : decode cX1_alike 84 = .ok (.iload 4, 2) := dk_21 4 (dk_at dksX1_alike_3 13 rfl rfl)
theorem dX1_alike_86 : decode cX1_alike 86 = .ok (.ifCond .eq 6, 3) := dk_153 0 6 (dk_at dksX1_alike_3 15 rfl rfl)
theorem dX1_alike_89 : decode cX1_alike 89 = .ok (.iinc 1 1, 3) := dk_132 1 1 (dk_at dksX1_alike_3 18 rfl rfl)
theorem dX1_alike_92 : decode cX1_alike 92 = .ok (.iinc 3 1, 3) := dk_132 3 1 (dk_at dksX1_alike_3 21 rfl rfl)
theorem dX1_alike_95 : decode cX1_alike 95 = .ok (.goto (-79), 3) := dk_167 255 177 (dk_at dksX1_alike_4 0 rfl rfl)
theorem dX1_alike_98 : decode cX1_alike 98 = .ok (.iinc 2 1, 3) := dk_132 2 1 (dk_at dksX1_alike_4 3 rfl rfl)
theorem dX1_alike_101 : decode cX1_alike 101 = .ok (.goto (-97), 3) := dk_167 255 159 (dk_at dksX1_alike_4 6 rfl rfl)
theorem dX1_alike_104 : decode cX1_alike 104 = .ok (.iload_n 1, 1) := dk_27 (dk_at dksX1_alike_4 9 rfl rfl)
theorem dX1_alike_105 : decode cX1_alike 105 = .ok (.ireturn, 1) := dk_172 (dk_at dksX1_alike_4 10 rfl rfl)
def dkwX1_say_2 : List UInt8 := [79, 89, 5, 29, 153, 0, 7, 4, 167, 0, 4, 3, 79, 182, 0, 193, 87, 4, 172]
abbrev dktX1_say_2 : List UInt8 := dkwX1_say_2 ++ []
def dkwX1_say_1 : List UInt8 := [182, 0, 125, 16, 8, 160, 0, 5, 3, 172, 42, 180, 0, 56, 6, 188, 10, 89, 3, 27, 79, 89, 4, 28]
abbrev dktX1_say_1 : List UInt8 := dkwX1_say_1 ++ dktX1_say_2
def dkwX1_say_0 : List UInt8 := [27, 3, 16, 20, 184, 0, 134, 153, 0, 25, 28, 3, 16, 35, 184, 0, 134, 153, 0, 15, 42, 180, 0, 56]
abbrev dktX1_say_0 : List UInt8 := dkwX1_say_0 ++ dktX1_say_1
theorem dksX1_say_0 : cX1_say.data.toList.drop 0 = dktX1_say_0 := by decide +kernel
theorem dksX1_say_1 : cX1_say.data.toList.drop 24 = dktX1_say_1 := dk_seg dksX1_say_0 24 rfl rfl
theorem dksX1_say_2 : cX1_say.data.toList.drop 48 = dktX1_say_2 := dk_seg dksX1_say_1 24 rfl rfl
theorem dX1_say_0 : decode cX1_say 0 = .ok (.iload_n 1, 1) := dk_27 (dk_at dksX1_say_0 0 rfl rfl)
theorem dX1_say_1 : decode cX1_say 1 = .ok (.iconst 0, 1) := dk_3 (dk_at dksX1_say_0 1 rfl rfl)
theorem dX1_say_2 : decode cX1_say 2 = .ok (.bipush 20, 2) := dk_16 20 (dk_at dksX1_say_0 2 rfl rfl)
theorem dX1_say_4 : decode cX1_say 4 = .ok (.invokestatic 134, 3) := dk_184 0 134 (dk_at dksX1_say_0 4 rfl rfl)
theorem dX1_say_7 : decode cX1_say 7 = .ok (.ifCond .eq 25, 3) := dk_153 0 25 (dk_at dksX1_say_0 7 rfl rfl)
theorem dX1_say_10 : decode cX1_say 10 = .ok (.iload_n 2, 1) := dk_28 (dk_at dksX1_say_0 10 rfl rfl)
theorem dX1_say_11 : decode cX1_say 11 = .ok (.iconst 0, 1) := dk_3 (dk_at dksX1_say_0 11 rfl rfl)
theorem dX1_say_12 : decode cX1_say 12 = .ok (.bipush 35, 2) := dk_16 35 (dk_at dksX1_say_0 12 rfl rfl)
theorem dX1_say_14 : decode cX1_say 14 = .ok (.invokestatic 134, 3) := dk_184 0 134 (dk_at dksX1_say_0 14 rfl rfl)
theorem dX1_say_17 : decode cX1_say 17 = .ok (.ifCond .eq 15, 3) := dk_153 0 15 (dk_at dksX1_say_0 17 rfl rfl)
theorem dX1_say_20 : decode cX1_say 20 = .ok (.aload_n 0, 1) := dk_42 (dk_at dksX1_say_0 20 rfl rfl)
theorem dX1_say_21 : decode cX1_say 21 = .ok (.getfield 56, 3) := dk_180 0 56 (dk_at dksX1_say_0 21 rfl rfl)
theorem dX1_say_24 : decode cX1_say 24 = .ok (.invokevirtual 125, 3) := dk_182 0 125 (dk_at dksX1_say_1 0 rfl rfl)
theorem dX1_say_27 : decode cX1_say 27 = .ok (.bipush 8, 2) := dk_16 8 (dk_at dksX1_say_1 3 rfl rfl)
theorem dX1_say_29 : decode cX1_say 29 = .ok (.if_icmp .ne 5, 3) := dk_160 0 5 (dk_at dksX1_say_1 5 rfl rfl)
theorem dX1_say_32 : decode cX1_say 32 = .ok (.iconst 0, 1) := dk_3 (dk_at dksX1_say_1 8 rfl rfl)
theorem dX1_say_33 : decode cX1_say 33 = .ok (.ireturn, 1) := dk_172 (dk_at dksX1_say_1 9 rfl rfl)
theorem dX1_say_34 : decode cX1_say 34 = .ok (.aload_n 0, 1) := dk_42 (dk_at dksX1_say_1 10 rfl rfl)
theorem dX1_say_35 : decode cX1_say 35 = .ok (.getfield 56, 3) := dk_180 0 56 (dk_at dksX1_say_1 11 rfl rfl)
theorem dX1_say_38 : decode cX1_say 38 = .ok (.iconst 3, 1) := dk_6 (dk_at dksX1_say_1 14 rfl rfl)
theorem dX1_say_39 : decode cX1_say 39 = .ok (.newarray .int, 2) := dk_188_10 (dk_at dksX1_say_1 15 rfl rfl)
theorem dX1_say_41 : decode cX1_say 41 = .ok (.dup, 1) := dk_89 (dk_at dksX1_say_1 17 rfl rfl)
theorem dX1_say_42 : decode cX1_say 42 = .ok (.iconst 0, 1) := dk_3 (dk_at dksX1_say_1 18 rfl rfl)
theorem dX1_say_43 : decode cX1_say 43 = .ok (.iload_n 1, 1) := dk_27 (dk_at dksX1_say_1 19 rfl rfl)
theorem dX1_say_44 : decode cX1_say 44 = .ok (.iastore, 1) := dk_79 (dk_at dksX1_say_1 20 rfl rfl)
theorem dX1_say_45 : decode cX1_say 45 = .ok (.dup, 1) := dk_89 (dk_at dksX1_say_1 21 rfl rfl)
theorem dX1_say_46 : decode cX1_say 46 = .ok (.iconst 1, 1) := dk_4 (dk_at dksX1_say_1 22 rfl rfl)
theorem dX1_say_47 : decode cX1_say 47 = .ok (.iload_n 2, 1) := dk_28 (dk_at dksX1_say_1 23 rfl rfl)
theorem dX1_say_48 : decode cX1_say 48 = .ok (.iastore, 1) := dk_79 (dk_at dksX1_say_2 0 rfl rfl)
theorem dX1_say_49 : decode cX1_say 49 = .ok (.dup, 1) := dk_89 (dk_at dksX1_say_2 1 rfl rfl)
theorem dX1_say_50 : decode cX1_say 50 = .ok (.iconst 2, 1) := dk_5 (dk_at dksX1_say_2 2 rfl rfl)
theorem dX1_say_51 : decode cX1_say 51 = .ok (.iload_n 3, 1) := dk_29 (dk_at dksX1_say_2 3 rfl rfl)
theorem dX1_say_52 : decode cX1_say 52 = .ok (.ifCond .eq 7, 3) := dk_153 0 7 (dk_at dksX1_say_2 4 rfl rfl)
theorem dX1_say_55 : decode cX1_say 55 = .ok (.iconst 1, 1) := dk_4 (dk_at dksX1_say_2 7 rfl rfl)
theorem dX1_say_56 : decode cX1_say 56 = .ok (.goto 4, 3) := dk_167 0 4 (dk_at dksX1_say_2 8 rfl rfl)
theorem dX1_say_59 : decode cX1_say 59 = .ok (.iconst 0, 1) := dk_3 (dk_at dksX1_say_2 11 rfl rfl)
theorem dX1_say_60 : decode cX1_say 60 = .ok (.iastore, 1) := dk_79 (dk_at dksX1_say_2 12 rfl rfl)
theorem dX1_say_61 : decode cX1_say 61 = .ok (.invokevirtual 193, 3) := dk_182 0 193 (dk_at dksX1_say_2 13 rfl rfl)
theorem dX1_say_64 : decode cX1_say 64 = .ok (.pop, 1) := dk_87 (dk_at dksX1_say_2 16 rfl rfl)
theorem dX1_say_65 : decode cX1_say 65 = .ok (.iconst 1, 1) := dk_4 (dk_at dksX1_say_2 17 rfl rfl)
theorem dX1_say_66 : decode cX1_say 66 = .ok (.ireturn, 1) := dk_172 (dk_at dksX1_say_2 18 rfl rfl)
def dkwX1_who_4 : List UInt8 := [2, 130, 126, 60, 132, 4, 1, 167, 255, 199, 132, 2, 1, 167, 255, 160, 27, 172]
abbrev dktX1_who_4 : List UInt8 := dkwX1_who_4 ++ []
def dkwX1_who_3 : List UInt8 := [167, 0, 4, 3, 45, 5, 46, 4, 160, 0, 7, 4, 167, 0, 4, 3, 159, 0, 12, 27, 4, 21, 4, 120]
abbrev dktX1_who_3 : List UInt8 := dkwX1_who_3 ++ dktX1_who_4
def dkwX1_who_2 : List UInt8 := [182, 0, 132, 162, 0, 54, 42, 180, 0, 44, 180, 0, 161, 21, 4, 46, 45, 4, 46, 160, 0, 7, 4]
abbrev dktX1_who_2 : List UInt8 := dkwX1_who_2 ++ dktX1_who_3
def dkwX1_who_1 : List UInt8 := [180, 0, 56, 28, 182, 0, 217, 192, 1, 24, 78, 42, 45, 3, 46, 182, 1, 25, 3, 54, 4, 21, 4, 42]
abbrev dktX1_who_1 : List UInt8 := dkwX1_who_1 ++ dktX1_who_2
def dkwX1_who_0 : List UInt8 := [42, 180, 0, 40, 180, 0, 170, 60, 3, 61, 28, 42, 180, 0, 56, 182, 0, 125, 162, 0, 91, 42]
abbrev dktX1_who_0 : List UInt8 := dkwX1_who_0 ++ dktX1_who_1
theorem dksX1_who_0 : cX1_who.data.toList.drop 0 = dktX1_who_0 := by decide +kernel
theorem dksX1_who_1 : cX1_who.data.toList.drop 22 = dktX1_who_1 := dk_seg dksX1_who_0 22 rfl rfl
theorem dksX1_who_2 : cX1_who.data.toList.drop 46 = dktX1_who_2 := dk_seg dksX1_who_1 24 rfl rfl
theorem dksX1_who_3 : cX1_who.data.toList.drop 69 = dktX1_who_3 := dk_seg dksX1_who_2 23 rfl rfl
theorem dksX1_who_4 : cX1_who.data.toList.drop 93 = dktX1_who_4 := dk_seg dksX1_who_3 24 rfl rfl
theorem dX1_who_0 : decode cX1_who 0 = .ok (.aload_n 0, 1) := dk_42 (dk_at dksX1_who_0 0 rfl rfl)
theorem dX1_who_1 : decode cX1_who 1 = .ok (.getfield 40, 3) := dk_180 0 40 (dk_at dksX1_who_0 1 rfl rfl)
theorem dX1_who_4 : decode cX1_who 4 = .ok (.getfield 170, 3) := dk_180 0 170 (dk_at dksX1_who_0 4 rfl rfl)
theorem dX1_who_7 : decode cX1_who 7 = .ok (.istore_n 1, 1) := dk_60 (dk_at dksX1_who_0 7 rfl rfl)
theorem dX1_who_8 : decode cX1_who 8 = .ok (.iconst 0, 1) := dk_3 (dk_at dksX1_who_0 8 rfl rfl)
theorem dX1_who_9 : decode cX1_who 9 = .ok (.istore_n 2, 1) := dk_61 (dk_at dksX1_who_0 9 rfl rfl)
theorem dX1_who_10 : decode cX1_who 10 = .ok (.iload_n 2, 1) := dk_28 (dk_at dksX1_who_0 10 rfl rfl)
theorem dX1_who_11 : decode cX1_who 11 = .ok (.aload_n 0, 1) := dk_42 (dk_at dksX1_who_0 11 rfl rfl)
theorem dX1_who_12 : decode cX1_who 12 = .ok (.getfield 56, 3) := dk_180 0 56 (dk_at dksX1_who_0 12 rfl rfl)
theorem dX1_who_15 : decode cX1_who 15 = .ok (.invokevirtual 125, 3) := dk_182 0 125 (dk_at dksX1_who_0 15 rfl rfl)
theorem dX1_who_18 : decode cX1_who 18 = .ok (.if_icmp .ge 91, 3) := dk_162 0 91 (dk_at dksX1_who_0 18 rfl rfl)
theorem dX1_who_21 : decode cX1_who 21 = .ok (.aload_n 0, 1) := dk_42 (dk_at dksX1_who_0 21 rfl rfl)
theorem dX1_who_22 : decode cX1_who 22 = .ok (.getfield 56, 3) := dk_180 0 56 (dk_at dksX1_who_1 0 rfl rfl)
theorem dX1_who_25 : decode cX1_who 25 = .ok (.iload_n 2, 1) := dk_28 (dk_at dksX1_who_1 3 rfl rfl)
theorem dX1_who_26 : decode cX1_who 26 = .ok (.invokevirtual 217, 3) := dk_182 0 217 (dk_at dksX1_who_1 4 rfl rfl)
theorem dX1_who_29 : decode cX1_who 29 = .ok (.checkcast 280, 3) := dk_192 1 24 (dk_at dksX1_who_1 7 rfl rfl)
theorem dX1_who_32 : decode cX1_who 32 = .ok (.astore_n 3, 1) := dk_78 (dk_at dksX1_who_1 10 rfl rfl)
theorem dX1_who_33 : decode cX1_who 33 = .ok (.aload_n 0, 1) := dk_42 (dk_at dksX1_who_1 11 rfl rfl)
theorem dX1_who_34 : decode cX1_who 34 = .ok (.aload_n 3, 1) := dk_45 (dk_at dksX1_who_1 12 rfl rfl)
theorem dX1_who_35 : decode cX1_who 35 = .ok (.iconst 0, 1) := dk_3 (dk_at dksX1_who_1 13 rfl rfl)
theorem dX1_who_36 : decode cX1_who 36 = .ok (.iaload, 1) := dk_46 (dk_at dksX1_who_1 14 rfl rfl)
theorem dX1_who_37 : decode cX1_who 37 = .ok (.invokevirtual 281, 3) := dk_182 1 25 (dk_at dksX1_who_1 15 rfl rfl)
theorem dX1_who_40 : decode cX1_who 40 = .ok (.iconst 0, 1) := dk_3 (dk_at dksX1_who_1 18 rfl rfl)
theorem dX1_who_41 : decode cX1_who 41 = .ok (.istore 4, 2) := dk_54 4 (dk_at dksX1_who_1 19 rfl rfl)
theorem dX1_who_43 : decode cX1_who 43 = .ok (.iload 4, 2) := dk_21 4 (dk_at dksX1_who_1 21 rfl rfl)
theorem dX1_who_45 : decode cX1_who 45 = .ok (.aload_n 0, 1) := dk_42 (dk_at dksX1_who_1 23 rfl rfl)
theorem dX1_who_46 : decode cX1_who 46 = .ok (.invokevirtual 132, 3) := dk_182 0 132 (dk_at dksX1_who_2 0 rfl rfl)
theorem dX1_who_49 : decode cX1_who 49 = .ok (.if_icmp .ge 54, 3) := dk_162 0 54 (dk_at dksX1_who_2 3 rfl rfl)
theorem dX1_who_52 : decode cX1_who 52 = .ok (.aload_n 0, 1) := dk_42 (dk_at dksX1_who_2 6 rfl rfl)
theorem dX1_who_53 : decode cX1_who 53 = .ok (.getfield 44, 3) := dk_180 0 44 (dk_at dksX1_who_2 7 rfl rfl)
theorem dX1_who_56 : decode cX1_who 56 = .ok (.getfield 161, 3) := dk_180 0 161 (dk_at dksX1_who_2 10 rfl rfl)
theorem dX1_who_59 : decode cX1_who 59 = .ok (.iload 4, 2) := dk_21 4 (dk_at dksX1_who_2 13 rfl rfl)
theorem dX1_who_61 : decode cX1_who 61 = .ok (.iaload, 1) := dk_46 (dk_at dksX1_who_2 15 rfl rfl)
theorem dX1_who_62 : decode cX1_who 62 = .ok (.aload_n 3, 1) := dk_45 (dk_at dksX1_who_2 16 rfl rfl)
theorem dX1_who_63 : decode cX1_who 63 = .ok (.iconst 1, 1) := dk_4 (dk_at dksX1_who_2 17 rfl rfl)
theorem dX1_who_64 : decode cX1_who 64 = .ok (.iaload, 1) := dk_46 (dk_at dksX1_who_2 18 rfl rfl)
theorem dX1_who_65 : decode cX1_who 65 = .ok (.if_icmp .ne 7, 3) := dk_160 0 7 (dk_at dksX1_who_2 19 rfl rfl)
theorem dX1_who_68 : decode cX1_who 68 = .ok (.iconst 1, 1) := dk_4 (dk_at dksX1_who_2 22 rfl rfl)
theorem dX1_who_69 : decode cX1_who 69 = .ok (.goto 4, 3) := dk_167 0 4 (dk_at dksX1_who_3 0 rfl rfl)
theorem dX1_who_72 : decode cX1_who 72 = .ok (.iconst 0, 1) := dk_3 (dk_at dksX1_who_3 3 rfl rfl)
theorem dX1_who_73 : decode cX1_who 73 = .ok (.aload_n 3, 1) := dk_45 (dk_at dksX1_who_3 4 rfl rfl)
theorem dX1_who_74 : decode cX1_who 74 = .ok (.iconst 2, 1) := dk_5 (dk_at dksX1_who_3 5 rfl rfl)
theorem dX1_who_75 : decode cX1_who 75 = .ok (.iaload, 1) := dk_46 (dk_at dksX1_who_3 6 rfl rfl)
theorem dX1_who_76 : decode cX1_who 76 = .ok (.iconst 1, 1) := dk_4 (dk_at dksX1_who_3 7 rfl rfl)
theorem dX1_who_77 : decode cX1_who 77 = .ok (.if_icmp .ne 7, 3) := dk_160 0 7 (dk_at dksX1_who_3 8 rfl rfl)
theorem dX1_who_80 : decode cX1_who 80 = .ok (.iconst 1, 1) := dk_4 (dk_at dksX1_who_3 11 rfl rfl)
theorem dX1_who_81 : decode cX1_who 81 = .ok (.goto 4, 3) := dk_167 0 4 (dk_at dksX1_who_3 12 rfl rfl)
theorem dX1_who_84 : decode cX1_who 84 = .ok (.iconst 0, 1) := dk_3 (dk_at dksX1_who_3 15 rfl rfl)
theorem dX1_who_85 : decode cX1_who 85 = .ok (.if_icmp .eq 12, 3) := dk_159 0 12 (dk_at dksX1_who_3 16 rfl rfl)
theorem dX1_who_88 : decode cX1_who 88 = .ok (.iload_n 1, 1) := dk_27 (dk_at dksX1_who_3 19 rfl rfl)
theorem dX1_who_89 : decode cX1_who 89 = .ok (.iconst 1, 1) := dk_4 (dk_at dksX1_who_3 20 rfl rfl)
theorem dX1_who_90 : decode cX1_who 90 = .ok (.iload 4, 2) := dk_21 4 (dk_at dksX1_who_3 21 rfl rfl)
theorem dX1_who_92 : decode cX1_who 92 = .ok (.ishl, 1) := dk_120 (dk_at dksX1_who_3 23 rfl rfl)
theorem dX1_who_93 : decode cX1_who 93 = .ok (.iconst (-1), 1) := dk_2 (dk_at dksX1_who_4 0 rfl rfl)
theorem dX1_who_94 : decode cX1_who 94 = .ok (.ixor, 1) := dk_130 (dk_at dksX1_who_4 1 rfl rfl)
theorem dX1_who_95 : decode cX1_who 95 = .ok (.iand, 1) := dk_126 (dk_at dksX1_who_4 2 rfl rfl)
theorem dX1_who_96 : decode cX1_who 96 = .ok (.istore_n 1, 1) := dk_60 (dk_at dksX1_who_4 3 rfl rfl)
theorem dX1_who_97 : decode cX1_who 97 = .ok (.iinc 4 1, 3) := dk_132 4 1 (dk_at dksX1_who_4 4 rfl rfl)
theorem dX1_who_100 : decode cX1_who 100 = .ok (.goto (-57), 3) := dk_167 255 199 (dk_at dksX1_who_4 7 rfl rfl)
theorem dX1_who_103 : decode cX1_who 103 = .ok (.iinc 2 1, 3) := dk_132 2 1 (dk_at dksX1_who_4 10 rfl rfl)
theorem dX1_who_106 : decode cX1_who 106 = .ok (.goto (-96), 3) := dk_167 255 160 (dk_at dksX1_who_4 13 rfl rfl)
theorem dX1_who_109 : decode cX1_who 109 = .ok (.iload_n 1, 1) := dk_27 (dk_at dksX1_who_4 16 rfl rfl)
theorem dX1_who_110 : decode cX1_who 110 = .ok (.ireturn, 1) := dk_172 (dk_at dksX1_who_4 17 rfl rfl)
def dkwX1_walksFor_1 : List UInt8 := [27, 162, 0, 17, 42, 180, 0, 44, 182, 0, 210, 87, 132, 2, 1, 167, 255, 240, 177]
abbrev dktX1_walksFor_1 : List UInt8 := dkwX1_walksFor_1 ++ []
def dkwX1_walksFor_0 : List UInt8 := [42, 180, 0, 44, 42, 180, 0, 40, 182, 0, 227, 87, 42, 180, 0, 44, 16, 15, 181, 0, 144, 3, 61, 28]
abbrev dktX1_walksFor_0 : List UInt8 := dkwX1_walksFor_0 ++ dktX1_walksFor_1
theorem dksX1_walksFor_0 : cX1_walksFor.data.toList.drop 0 = dktX1_walksFor_0 := by decide +kernel
theorem dksX1_walksFor_1 : cX1_walksFor.data.toList.drop 24 = dktX1_walksFor_1 := dk_seg dksX1_walksFor_0 24 rfl rfl
theorem dX1_walksFor_0 : decode cX1_walksFor 0 = .ok (.aload_n 0, 1) := dk_42 (dk_at dksX1_walksFor_0 0 rfl rfl)
theorem dX1_walksFor_1 : decode cX1_walksFor 1 = .ok (.getfield 44, 3) := dk_180 0 44 (dk_at dksX1_walksFor_0 1 rfl rfl)
theorem dX1_walksFor_4 : decode cX1_walksFor 4 = .ok (.aload_n 0, 1) := dk_42 (dk_at dksX1_walksFor_0 4 rfl rfl)
theorem dX1_walksFor_5 : decode cX1_walksFor 5 = .ok (.getfield 40, 3) := dk_180 0 40 (dk_at dksX1_walksFor_0 5 rfl rfl)
theorem dX1_walksFor_8 : decode cX1_walksFor 8 = .ok (.invokevirtual 227, 3) := dk_182 0 227 (dk_at dksX1_walksFor_0 8 rfl rfl)
theorem dX1_walksFor_11 : decode cX1_walksFor 11 = .ok (.pop, 1) := dk_87 (dk_at dksX1_walksFor_0 11 rfl rfl)
theorem dX1_walksFor_12 : decode cX1_walksFor 12 = .ok (.aload_n 0, 1) := dk_42 (dk_at dksX1_walksFor_0 12 rfl rfl)
theorem dX1_walksFor_13 : decode cX1_walksFor 13 = .ok (.getfield 44, 3) := dk_180 0 44 (dk_at dksX1_walksFor_0 13 rfl rfl)
theorem dX1_walksFor_16 : decode cX1_walksFor 16 = .ok (.bipush 15, 2) := dk_16 15 (dk_at dksX1_walksFor_0 16 rfl rfl)
theorem dX1_walksFor_18 : decode cX1_walksFor 18 = .ok (.putfield 144, 3) := dk_181 0 144 (dk_at dksX1_walksFor_0 18 rfl rfl)
theorem dX1_walksFor_21 : decode cX1_walksFor 21 = .ok (.iconst 0, 1) := dk_3 (dk_at dksX1_walksFor_0 21 rfl rfl)
theorem dX1_walksFor_22 : decode cX1_walksFor 22 = .ok (.istore_n 2, 1) := dk_61 (dk_at dksX1_walksFor_0 22 rfl rfl)
theorem dX1_walksFor_23 : decode cX1_walksFor 23 = .ok (.iload_n 2, 1) := dk_28 (dk_at dksX1_walksFor_0 23 rfl rfl)
theorem dX1_walksFor_24 : decode cX1_walksFor 24 = .ok (.iload_n 1, 1) := dk_27 (dk_at dksX1_walksFor_1 0 rfl rfl)
theorem dX1_walksFor_25 : decode cX1_walksFor 25 = .ok (.if_icmp .ge 17, 3) := dk_162 0 17 (dk_at dksX1_walksFor_1 1 rfl rfl)
theorem dX1_walksFor_28 : decode cX1_walksFor 28 = .ok (.aload_n 0, 1) := dk_42 (dk_at dksX1_walksFor_1 4 rfl rfl)
theorem dX1_walksFor_29 : decode cX1_walksFor 29 = .ok (.getfield 44, 3) := dk_180 0 44 (dk_at dksX1_walksFor_1 5 rfl rfl)
theorem dX1_walksFor_32 : decode cX1_walksFor 32 = .ok (.invokevirtual 210, 3) := dk_182 0 210 (dk_at dksX1_walksFor_1 8 rfl rfl)
theorem dX1_walksFor_35 : decode cX1_walksFor 35 = .ok (.pop, 1) := dk_87 (dk_at dksX1_walksFor_1 11 rfl rfl)
theorem dX1_walksFor_36 : decode cX1_walksFor 36 = .ok (.iinc 2 1, 3) := dk_132 2 1 (dk_at dksX1_walksFor_1 12 rfl rfl)
theorem dX1_walksFor_39 : decode cX1_walksFor 39 = .ok (.goto (-16), 3) := dk_167 255 240 (dk_at dksX1_walksFor_1 15 rfl rfl)
theorem dX1_walksFor_42 : decode cX1_walksFor 42 = .ok (.return_, 1) := dk_177 (dk_at dksX1_walksFor_1 18 rfl rfl)
def dkwX1_ask_5 : List UInt8 := [104, 21, 5, 96, 61, 21, 7, 62, 132, 5, 1, 167, 255, 158, 132, 4, 1, 167, 255, 136, 28, 172]
abbrev dktX1_ask_5 : List UInt8 := dkwX1_ask_5 ++ []
def dkwX1_ask_4 : List UInt8 := [184, 1, 31, 21, 6, 100, 184, 1, 34, 54, 7, 21, 7, 29, 161, 0, 6, 167, 0, 15, 16, 36, 21, 4]
abbrev dktX1_ask_4 : List UInt8 := dkwX1_ask_4 ++ dktX1_ask_5
def dkwX1_ask_3 : List UInt8 := [180, 0, 161, 21, 7, 46, 21, 5, 160, 0, 6, 132, 6, 1, 132, 7, 1, 167, 255, 217, 21, 6, 27]
abbrev dktX1_ask_3 : List UInt8 := dkwX1_ask_3 ++ dktX1_ask_4
def dkwX1_ask_2 : List UInt8 := [54, 7, 21, 7, 42, 182, 0, 132, 162, 0, 36, 27, 21, 7, 184, 0, 147, 153, 0, 21, 42, 180, 0, 44]
abbrev dktX1_ask_2 : List UInt8 := dkwX1_ask_2 ++ dktX1_ask_3
def dkwX1_ask_1 : List UInt8 := [21, 4, 182, 1, 25, 3, 54, 5, 21, 5, 42, 182, 0, 112, 182, 0, 251, 162, 0, 92, 3, 54, 6, 3]
abbrev dktX1_ask_1 : List UInt8 := dkwX1_ask_1 ++ dktX1_ask_2
def dkwX1_ask_0 : List UInt8 := [42, 182, 1, 28, 60, 2, 61, 27, 184, 1, 31, 62, 3, 54, 4, 21, 4, 16, 20, 163, 0, 119, 42]
abbrev dktX1_ask_0 : List UInt8 := dkwX1_ask_0 ++ dktX1_ask_1
theorem dksX1_ask_0 : cX1_ask.data.toList.drop 0 = dktX1_ask_0 := by decide +kernel
theorem dksX1_ask_1 : cX1_ask.data.toList.drop 23 = dktX1_ask_1 := dk_seg dksX1_ask_0 23 rfl rfl
theorem dksX1_ask_2 : cX1_ask.data.toList.drop 47 = dktX1_ask_2 := dk_seg dksX1_ask_1 24 rfl rfl
theorem dksX1_ask_3 : cX1_ask.data.toList.drop 71 = dktX1_ask_3 := dk_seg dksX1_ask_2 24 rfl rfl
theorem dksX1_ask_4 : cX1_ask.data.toList.drop 94 = dktX1_ask_4 := dk_seg dksX1_ask_3 23 rfl rfl
theorem dksX1_ask_5 : cX1_ask.data.toList.drop 118 = dktX1_ask_5 := dk_seg dksX1_ask_4 24 rfl rfl
theorem dX1_ask_0 : decode cX1_ask 0 = .ok (.aload_n 0, 1) := dk_42 (dk_at dksX1_ask_0 0 rfl rfl)
theorem dX1_ask_1 : decode cX1_ask 1 = .ok (.invokevirtual 284, 3) := dk_182 1 28 (dk_at dksX1_ask_0 1 rfl rfl)
theorem dX1_ask_4 : decode cX1_ask 4 = .ok (.istore_n 1, 1) := dk_60 (dk_at dksX1_ask_0 4 rfl rfl)
theorem dX1_ask_5 : decode cX1_ask 5 = .ok (.iconst (-1), 1) := dk_2 (dk_at dksX1_ask_0 5 rfl rfl)
theorem dX1_ask_6 : decode cX1_ask 6 = .ok (.istore_n 2, 1) := dk_61 (dk_at dksX1_ask_0 6 rfl rfl)
theorem dX1_ask_7 : decode cX1_ask 7 = .ok (.iload_n 1, 1) := dk_27 (dk_at dksX1_ask_0 7 rfl rfl)
theorem dX1_ask_8 : decode cX1_ask 8 = .ok (.invokestatic 287, 3) := dk_184 1 31 (dk_at dksX1_ask_0 8 rfl rfl)
theorem dX1_ask_11 : decode cX1_ask 11 = .ok (.istore_n 3, 1) := dk_62 (dk_at dksX1_ask_0 11 rfl rfl)
theorem dX1_ask_12 : decode cX1_ask 12 = .ok (.iconst 0, 1) := dk_3 (dk_at dksX1_ask_0 12 rfl rfl)
theorem dX1_ask_13 : decode cX1_ask 13 = .ok (.istore 4, 2) := dk_54 4 (dk_at dksX1_ask_0 13 rfl rfl)
theorem dX1_ask_15 : decode cX1_ask 15 = .ok (.iload 4, 2) := dk_21 4 (dk_at dksX1_ask_0 15 rfl rfl)
theorem dX1_ask_17 : decode cX1_ask 17 = .ok (.bipush 20, 2) := dk_16 20 (dk_at dksX1_ask_0 17 rfl rfl)
theorem dX1_ask_19 : decode cX1_ask 19 = .ok (.if_icmp .gt 119, 3) := dk_163 0 119 (dk_at dksX1_ask_0 19 rfl rfl)
theorem dX1_ask_22 : decode cX1_ask 22 = .ok (.aload_n 0, 1) := dk_42 (dk_at dksX1_ask_0 22 rfl rfl)
theorem dX1_ask_23 : decode cX1_ask 23 = .ok (.iload 4, 2) := dk_21 4 (dk_at dksX1_ask_1 0 rfl rfl)
theorem dX1_ask_25 : decode cX1_ask 25 = .ok (.invokevirtual 281, 3) := dk_182 1 25 (dk_at dksX1_ask_1 2 rfl rfl)
theorem dX1_ask_28 : decode cX1_ask 28 = .ok (.iconst 0, 1) := dk_3 (dk_at dksX1_ask_1 5 rfl rfl)
theorem dX1_ask_29 : decode cX1_ask 29 = .ok (.istore 5, 2) := dk_54 5 (dk_at dksX1_ask_1 6 rfl rfl)
theorem dX1_ask_31 : decode cX1_ask 31 = .ok (.iload 5, 2) := dk_21 5 (dk_at dksX1_ask_1 8 rfl rfl)
theorem dX1_ask_33 : decode cX1_ask 33 = .ok (.aload_n 0, 1) := dk_42 (dk_at dksX1_ask_1 10 rfl rfl)
theorem dX1_ask_34 : decode cX1_ask 34 = .ok (.invokevirtual 112, 3) := dk_182 0 112 (dk_at dksX1_ask_1 11 rfl rfl)
theorem dX1_ask_37 : decode cX1_ask 37 = .ok (.invokevirtual 251, 3) := dk_182 0 251 (dk_at dksX1_ask_1 14 rfl rfl)
theorem dX1_ask_40 : decode cX1_ask 40 = .ok (.if_icmp .ge 92, 3) := dk_162 0 92 (dk_at dksX1_ask_1 17 rfl rfl)
theorem dX1_ask_43 : decode cX1_ask 43 = .ok (.iconst 0, 1) := dk_3 (dk_at dksX1_ask_1 20 rfl rfl)
theorem dX1_ask_44 : decode cX1_ask 44 = .ok (.istore 6, 2) := dk_54 6 (dk_at dksX1_ask_1 21 rfl rfl)
theorem dX1_ask_46 : decode cX1_ask 46 = .ok (.iconst 0, 1) := dk_3 (dk_at dksX1_ask_1 23 rfl rfl)
theorem dX1_ask_47 : decode cX1_ask 47 = .ok (.istore 7, 2) := dk_54 7 (dk_at dksX1_ask_2 0 rfl rfl)
theorem dX1_ask_49 : decode cX1_ask 49 = .ok (.iload 7, 2) := dk_21 7 (dk_at dksX1_ask_2 2 rfl rfl)
theorem dX1_ask_51 : decode cX1_ask 51 = .ok (.aload_n 0, 1) := dk_42 (dk_at dksX1_ask_2 4 rfl rfl)
theorem dX1_ask_52 : decode cX1_ask 52 = .ok (.invokevirtual 132, 3) := dk_182 0 132 (dk_at dksX1_ask_2 5 rfl rfl)
theorem dX1_ask_55 : decode cX1_ask 55 = .ok (.if_icmp .ge 36, 3) := dk_162 0 36 (dk_at dksX1_ask_2 8 rfl rfl)
theorem dX1_ask_58 : decode cX1_ask 58 = .ok (.iload_n 1, 1) := dk_27 (dk_at dksX1_ask_2 11 rfl rfl)
theorem dX1_ask_59 : decode cX1_ask 59 = .ok (.iload 7, 2) := dk_21 7 (dk_at dksX1_ask_2 12 rfl rfl)
theorem dX1_ask_61 : decode cX1_ask 61 = .ok (.invokestatic 147, 3) := dk_184 0 147 (dk_at dksX1_ask_2 14 rfl rfl)
theorem dX1_ask_64 : decode cX1_ask 64 = .ok (.ifCond .eq 21, 3) := dk_153 0 21 (dk_at dksX1_ask_2 17 rfl rfl)
theorem dX1_ask_67 : decode cX1_ask 67 = .ok (.aload_n 0, 1) := dk_42 (dk_at dksX1_ask_2 20 rfl rfl)
theorem dX1_ask_68 : decode cX1_ask 68 = .ok (.getfield 44, 3) := dk_180 0 44 (dk_at dksX1_ask_2 21 rfl rfl)
theorem dX1_ask_71 : decode cX1_ask 71 = .ok (.getfield 161, 3) := dk_180 0 161 (dk_at dksX1_ask_3 0 rfl rfl)
theorem dX1_ask_74 : decode cX1_ask 74 = .ok (.iload 7, 2) := dk_21 7 (dk_at dksX1_ask_3 3 rfl rfl)
theorem dX1_ask_76 : decode cX1_ask 76 = .ok (.iaload, 1) := dk_46 (dk_at dksX1_ask_3 5 rfl rfl)
theorem dX1_ask_77 : decode cX1_ask 77 = .ok (.iload 5, 2) := dk_21 5 (dk_at dksX1_ask_3 6 rfl rfl)
theorem dX1_ask_79 : decode cX1_ask 79 = .ok (.if_icmp .ne 6, 3) := dk_160 0 6 (dk_at dksX1_ask_3 8 rfl rfl)
theorem dX1_ask_82 : decode cX1_ask 82 = .ok (.iinc 6 1, 3) := dk_132 6 1 (dk_at dksX1_ask_3 11 rfl rfl)
theorem dX1_ask_85 : decode cX1_ask 85 = .ok (.iinc 7 1, 3) := dk_132 7 1 (dk_at dksX1_ask_3 14 rfl rfl)
theorem dX1_ask_88 : decode cX1_ask 88 = .ok (.goto (-39), 3) := dk_167 255 217 (dk_at dksX1_ask_3 17 rfl rfl)
theorem dX1_ask_91 : decode cX1_ask 91 = .ok (.iload 6, 2) := dk_21 6 (dk_at dksX1_ask_3 20 rfl rfl)
theorem dX1_ask_93 : decode cX1_ask 93 = .ok (.iload_n 1, 1) := dk_27 (dk_at dksX1_ask_3 22 rfl rfl)
theorem dX1_ask_94 : decode cX1_ask 94 = .ok (.invokestatic 287, 3) := dk_184 1 31 (dk_at dksX1_ask_4 0 rfl rfl)
theorem dX1_ask_97 : decode cX1_ask 97 = .ok (.iload 6, 2) := dk_21 6 (dk_at dksX1_ask_4 3 rfl rfl)
theorem dX1_ask_99 : decode cX1_ask 99 = .ok (.isub, 1) := dk_100 (dk_at dksX1_ask_4 5 rfl rfl)
theorem dX1_ask_100 : decode cX1_ask 100 = .ok (.invokestatic 290, 3) := dk_184 1 34 (dk_at dksX1_ask_4 6 rfl rfl)
theorem dX1_ask_103 : decode cX1_ask 103 = .ok (.istore 7, 2) := dk_54 7 (dk_at dksX1_ask_4 9 rfl rfl)
theorem dX1_ask_105 : decode cX1_ask 105 = .ok (.iload 7, 2) := dk_21 7 (dk_at dksX1_ask_4 11 rfl rfl)
theorem dX1_ask_107 : decode cX1_ask 107 = .ok (.iload_n 3, 1) := dk_29 (dk_at dksX1_ask_4 13 rfl rfl)
theorem dX1_ask_108 : decode cX1_ask 108 = .ok (.if_icmp .lt 6, 3) := dk_161 0 6 (dk_at dksX1_ask_4 14 rfl rfl)
theorem dX1_ask_111 : decode cX1_ask 111 = .ok (.goto 15, 3) := dk_167 0 15 (dk_at dksX1_ask_4 17 rfl rfl)
theorem dX1_ask_114 : decode cX1_ask 114 = .ok (.bipush 36, 2) := dk_16 36 (dk_at dksX1_ask_4 20 rfl rfl)
theorem dX1_ask_116 : decode cX1_ask 116 = .ok (.iload 4, 2) := dk_21 4 (dk_at dksX1_ask_4 22 rfl rfl)
theorem dX1_ask_118 : decode cX1_ask 118 = .ok (.imul, 1) := dk_104 (dk_at dksX1_ask_5 0 rfl rfl)
theorem dX1_ask_119 : decode cX1_ask 119 = .ok (.iload 5, 2) := dk_21 5 (dk_at dksX1_ask_5 1 rfl rfl)
theorem dX1_ask_121 : decode cX1_ask 121 = .ok (.iadd, 1) := dk_96 (dk_at dksX1_ask_5 3 rfl rfl)
theorem dX1_ask_122 : decode cX1_ask 122 = .ok (.istore_n 2, 1) := dk_61 (dk_at dksX1_ask_5 4 rfl rfl)
theorem dX1_ask_123 : decode cX1_ask 123 = .ok (.iload 7, 2) := dk_21 7 (dk_at dksX1_ask_5 5 rfl rfl)
theorem dX1_ask_125 : decode cX1_ask 125 = .ok (.istore_n 3, 1) := dk_62 (dk_at dksX1_ask_5 7 rfl rfl)
theorem dX1_ask_126 : decode cX1_ask 126 = .ok (.iinc 5 1, 3) := dk_132 5 1 (dk_at dksX1_ask_5 8 rfl rfl)
theorem dX1_ask_129 : decode cX1_ask 129 = .ok (.goto (-98), 3) := dk_167 255 158 (dk_at dksX1_ask_5 11 rfl rfl)
theorem dX1_ask_132 : decode cX1_ask 132 = .ok (.iinc 4 1, 3) := dk_132 4 1 (dk_at dksX1_ask_5 14 rfl rfl)
theorem dX1_ask_135 : decode cX1_ask 135 = .ok (.goto (-120), 3) := dk_167 255 136 (dk_at dksX1_ask_5 17 rfl rfl)
theorem dX1_ask_138 : decode cX1_ask 138 = .ok (.iload_n 2, 1) := dk_28 (dk_at dksX1_ask_5 20 rfl rfl)
theorem dX1_ask_139 : decode cX1_ask 139 = .ok (.ireturn, 1) := dk_172 (dk_at dksX1_ask_5 21 rfl rfl)
def dkwX1_bits_0 : List UInt8 := [3, 60, 26, 61, 28, 153, 0, 15, 132, 1, 1, 28, 28, 4, 100, 126, 61, 167, 255, 243, 27, 172]
abbrev dktX1_bits_0 : List UInt8 := dkwX1_bits_0 ++ []
theorem dksX1_bits_0 : cX1_bits.data.toList.drop 0 = dktX1_bits_0 := by decide +kernel
theorem dX1_bits_0 : decode cX1_bits 0 = .ok (.iconst 0, 1) := dk_3 (dk_at dksX1_bits_0 0 rfl rfl)
theorem dX1_bits_1 : decode cX1_bits 1 = .ok (.istore_n 1, 1) := dk_60 (dk_at dksX1_bits_0 1 rfl rfl)
theorem dX1_bits_2 : decode cX1_bits 2 = .ok (.iload_n 0, 1) := dk_26 (dk_at dksX1_bits_0 2 rfl rfl)
theorem dX1_bits_3 : decode cX1_bits 3 = .ok (.istore_n 2, 1) := dk_61 (dk_at dksX1_bits_0 3 rfl rfl)
theorem dX1_bits_4 : decode cX1_bits 4 = .ok (.iload_n 2, 1) := dk_28 (dk_at dksX1_bits_0 4 rfl rfl)
theorem dX1_bits_5 : decode cX1_bits 5 = .ok (.ifCond .eq 15, 3) := dk_153 0 15 (dk_at dksX1_bits_0 5 rfl rfl)
theorem dX1_bits_8 : decode cX1_bits 8 = .ok (.iinc 1 1, 3) := dk_132 1 1 (dk_at dksX1_bits_0 8 rfl rfl)
theorem dX1_bits_11 : decode cX1_bits 11 = .ok (.iload_n 2, 1) := dk_28 (dk_at dksX1_bits_0 11 rfl rfl)
theorem dX1_bits_12 : decode cX1_bits 12 = .ok (.iload_n 2, 1) := dk_28 (dk_at dksX1_bits_0 12 rfl rfl)
theorem dX1_bits_13 : decode cX1_bits 13 = .ok (.iconst 1, 1) := dk_4 (dk_at dksX1_bits_0 13 rfl rfl)
theorem dX1_bits_14 : decode cX1_bits 14 = .ok (.isub, 1) := dk_100 (dk_at dksX1_bits_0 14 rfl rfl)
theorem dX1_bits_15 : decode cX1_bits 15 = .ok (.iand, 1) := dk_126 (dk_at dksX1_bits_0 15 rfl rfl)
theorem dX1_bits_16 : decode cX1_bits 16 = .ok (.istore_n 2, 1) := dk_61 (dk_at dksX1_bits_0 16 rfl rfl)
theorem dX1_bits_17 : decode cX1_bits 17 = .ok (.goto (-13), 3) := dk_167 255 243 (dk_at dksX1_bits_0 17 rfl rfl)
theorem dX1_bits_20 : decode cX1_bits 20 = .ok (.iload_n 1, 1) := dk_27 (dk_at dksX1_bits_0 20 rfl rfl)
theorem dX1_bits_21 : decode cX1_bits 21 = .ok (.ireturn, 1) := dk_172 (dk_at dksX1_bits_0 21 rfl rfl)
def dkwX1_chance_2 : List UInt8 := [182, 1, 39, 180, 1, 42, 133, 20, 1, 45, 105, 29, 133, 109, 136, 172]
abbrev dktX1_chance_2 : List UInt8 := dkwX1_chance_2 ++ []
def dkwX1_chance_1 : List UInt8 := [21, 4, 28, 162, 0, 13, 29, 8, 104, 62, 132, 4, 1, 167, 255, 243, 42, 180, 0, 82, 27, 28]
abbrev dktX1_chance_1 : List UInt8 := dkwX1_chance_1 ++ dktX1_chance_2
def dkwX1_chance_0 : List UInt8 := [42, 27, 182, 0, 207, 153, 0, 12, 28, 4, 7, 184, 0, 134, 154, 0, 5, 2, 172, 4, 62, 3, 54, 4]
abbrev dktX1_chance_0 : List UInt8 := dkwX1_chance_0 ++ dktX1_chance_1
theorem dksX1_chance_0 : cX1_chance.data.toList.drop 0 = dktX1_chance_0 := by decide +kernel
theorem dksX1_chance_1 : cX1_chance.data.toList.drop 24 = dktX1_chance_1 := dk_seg dksX1_chance_0 24 rfl rfl
theorem dksX1_chance_2 : cX1_chance.data.toList.drop 46 = dktX1_chance_2 := dk_seg dksX1_chance_1 22 rfl rfl
theorem dX1_chance_0 : decode cX1_chance 0 = .ok (.aload_n 0, 1) := dk_42 (dk_at dksX1_chance_0 0 rfl rfl)
theorem dX1_chance_1 : decode cX1_chance 1 = .ok (.iload_n 1, 1) := dk_27 (dk_at dksX1_chance_0 1 rfl rfl)
theorem dX1_chance_2 : decode cX1_chance 2 = .ok (.invokevirtual 207, 3) := dk_182 0 207 (dk_at dksX1_chance_0 2 rfl rfl)
theorem dX1_chance_5 : decode cX1_chance 5 = .ok (.ifCond .eq 12, 3) := dk_153 0 12 (dk_at dksX1_chance_0 5 rfl rfl)
theorem dX1_chance_8 : decode cX1_chance 8 = .ok (.iload_n 2, 1) := dk_28 (dk_at dksX1_chance_0 8 rfl rfl)
theorem dX1_chance_9 : decode cX1_chance 9 = .ok (.iconst 1, 1) := dk_4 (dk_at dksX1_chance_0 9 rfl rfl)
theorem dX1_chance_10 : decode cX1_chance 10 = .ok (.iconst 4, 1) := dk_7 (dk_at dksX1_chance_0 10 rfl rfl)
theorem dX1_chance_11 : decode cX1_chance 11 = .ok (.invokestatic 134, 3) := dk_184 0 134 (dk_at dksX1_chance_0 11 rfl rfl)
theorem dX1_chance_14 : decode cX1_chance 14 = .ok (.ifCond .ne 5, 3) := dk_154 0 5 (dk_at dksX1_chance_0 14 rfl rfl)
theorem dX1_chance_17 : decode cX1_chance 17 = .ok (.iconst (-1), 1) := dk_2 (dk_at dksX1_chance_0 17 rfl rfl)
theorem dX1_chance_18 : decode cX1_chance 18 = .ok (.ireturn, 1) := dk_172 (dk_at dksX1_chance_0 18 rfl rfl)
theorem dX1_chance_19 : decode cX1_chance 19 = .ok (.iconst 1, 1) := dk_4 (dk_at dksX1_chance_0 19 rfl rfl)
theorem dX1_chance_20 : decode cX1_chance 20 = .ok (.istore_n 3, 1) := dk_62 (dk_at dksX1_chance_0 20 rfl rfl)
theorem dX1_chance_21 : decode cX1_chance 21 = .ok (.iconst 0, 1) := dk_3 (dk_at dksX1_chance_0 21 rfl rfl)
theorem dX1_chance_22 : decode cX1_chance 22 = .ok (.istore 4, 2) := dk_54 4 (dk_at dksX1_chance_0 22 rfl rfl)
theorem dX1_chance_24 : decode cX1_chance 24 = .ok (.iload 4, 2) := dk_21 4 (dk_at dksX1_chance_1 0 rfl rfl)
theorem dX1_chance_26 : decode cX1_chance 26 = .ok (.iload_n 2, 1) := dk_28 (dk_at dksX1_chance_1 2 rfl rfl)
theorem dX1_chance_27 : decode cX1_chance 27 = .ok (.if_icmp .ge 13, 3) := dk_162 0 13 (dk_at dksX1_chance_1 3 rfl rfl)
theorem dX1_chance_30 : decode cX1_chance 30 = .ok (.iload_n 3, 1) := dk_29 (dk_at dksX1_chance_1 6 rfl rfl)
theorem dX1_chance_31 : decode cX1_chance 31 = .ok (.iconst 5, 1) := dk_8 (dk_at dksX1_chance_1 7 rfl rfl)
theorem dX1_chance_32 : decode cX1_chance 32 = .ok (.imul, 1) := dk_104 (dk_at dksX1_chance_1 8 rfl rfl)
theorem dX1_chance_33 : decode cX1_chance 33 = .ok (.istore_n 3, 1) := dk_62 (dk_at dksX1_chance_1 9 rfl rfl)
theorem dX1_chance_34 : decode cX1_chance 34 = .ok (.iinc 4 1, 3) := dk_132 4 1 (dk_at dksX1_chance_1 10 rfl rfl)
theorem dX1_chance_37 : decode cX1_chance 37 = .ok (.goto (-13), 3) := dk_167 255 243 (dk_at dksX1_chance_1 13 rfl rfl)
theorem dX1_chance_40 : decode cX1_chance 40 = .ok (.aload_n 0, 1) := dk_42 (dk_at dksX1_chance_1 16 rfl rfl)
theorem dX1_chance_41 : decode cX1_chance 41 = .ok (.getfield 82, 3) := dk_180 0 82 (dk_at dksX1_chance_1 17 rfl rfl)
theorem dX1_chance_44 : decode cX1_chance 44 = .ok (.iload_n 1, 1) := dk_27 (dk_at dksX1_chance_1 20 rfl rfl)
theorem dX1_chance_45 : decode cX1_chance 45 = .ok (.iload_n 2, 1) := dk_28 (dk_at dksX1_chance_1 21 rfl rfl)
theorem dX1_chance_46 : decode cX1_chance 46 = .ok (.invokevirtual 295, 3) := dk_182 1 39 (dk_at dksX1_chance_2 0 rfl rfl)
theorem dX1_chance_49 : decode cX1_chance 49 = .ok (.getfield 298, 3) := dk_180 1 42 (dk_at dksX1_chance_2 3 rfl rfl)
theorem dX1_chance_52 : decode cX1_chance 52 = .ok (.i2l, 1) := dk_133 (dk_at dksX1_chance_2 6 rfl rfl)
theorem dX1_chance_53 : decode cX1_chance 53 = .ok (.ldc2_w 301, 3) := dk_20 1 45 (dk_at dksX1_chance_2 7 rfl rfl)
theorem dX1_chance_56 : decode cX1_chance 56 = .ok (.lmul, 1) := dk_105 (dk_at dksX1_chance_2 10 rfl rfl)
theorem dX1_chance_57 : decode cX1_chance 57 = .ok (.iload_n 3, 1) := dk_29 (dk_at dksX1_chance_2 11 rfl rfl)
theorem dX1_chance_58 : decode cX1_chance 58 = .ok (.i2l, 1) := dk_133 (dk_at dksX1_chance_2 12 rfl rfl)
theorem dX1_chance_59 : decode cX1_chance 59 = .ok (.ldiv, 1) := dk_109 (dk_at dksX1_chance_2 13 rfl rfl)
theorem dX1_chance_60 : decode cX1_chance 60 = .ok (.l2i, 1) := dk_136 (dk_at dksX1_chance_2 14 rfl rfl)
theorem dX1_chance_61 : decode cX1_chance 61 = .ok (.ireturn, 1) := dk_172 (dk_at dksX1_chance_2 15 rfl rfl)
def dkwX1_camps_7 : List UInt8 := [180, 0, 44, 180, 0, 170, 167, 0, 5, 21, 4, 172]
abbrev dktX1_camps_7 : List UInt8 := dkwX1_camps_7 ++ []
def dkwX1_camps_6 : List UInt8 := [42, 180, 0, 44, 180, 0, 226, 42, 180, 0, 40, 180, 0, 226, 100, 167, 0, 20, 29, 4, 160, 0, 13, 42]
abbrev dktX1_camps_6 : List UInt8 := dkwX1_camps_6 ++ dktX1_camps_7
def dkwX1_camps_5 : List UInt8 := [132, 6, 1, 167, 255, 201, 42, 180, 0, 44, 182, 0, 210, 87, 132, 5, 1, 167, 255, 178, 29, 154, 0, 21]
abbrev dktX1_camps_5 : List UInt8 := dkwX1_camps_5 ++ dktX1_camps_6
def dkwX1_camps_4 : List UInt8 := [182, 0, 197, 154, 0, 6, 167, 0, 17, 42, 180, 0, 44, 21, 6, 21, 7, 182, 0, 203, 132, 4, 1]
abbrev dktX1_camps_4 : List UInt8 := dkwX1_camps_4 ++ dktX1_camps_5
def dkwX1_camps_3 : List UInt8 := [162, 0, 52, 42, 8, 182, 1, 74, 54, 7, 21, 7, 153, 0, 34, 42, 180, 0, 44, 21, 6, 21, 7]
abbrev dktX1_camps_3 : List UInt8 := dkwX1_camps_3 ++ dktX1_camps_4
def dkwX1_camps_2 : List UInt8 := [181, 1, 62, 3, 54, 4, 3, 54, 5, 21, 5, 28, 162, 0, 78, 3, 54, 6, 21, 6, 42, 182, 0, 138]
abbrev dktX1_camps_2 : List UInt8 := dkwX1_camps_2 ++ dktX1_camps_3
def dkwX1_camps_1 : List UInt8 := [184, 0, 134, 154, 0, 5, 2, 172, 42, 180, 0, 44, 42, 180, 0, 40, 182, 0, 227, 87, 42, 27, 133]
abbrev dktX1_camps_1 : List UInt8 := dkwX1_camps_1 ++ dktX1_camps_2
def dkwX1_camps_0 : List UInt8 := [27, 3, 17, 39, 15, 184, 0, 134, 153, 0, 22, 28, 4, 16, 99, 184, 0, 134, 153, 0, 12, 29, 3, 5]
abbrev dktX1_camps_0 : List UInt8 := dkwX1_camps_0 ++ dktX1_camps_1
theorem dksX1_camps_0 : cX1_camps.data.toList.drop 0 = dktX1_camps_0 := by decide +kernel
theorem dksX1_camps_1 : cX1_camps.data.toList.drop 24 = dktX1_camps_1 := dk_seg dksX1_camps_0 24 rfl rfl
theorem dksX1_camps_2 : cX1_camps.data.toList.drop 47 = dktX1_camps_2 := dk_seg dksX1_camps_1 23 rfl rfl
theorem dksX1_camps_3 : cX1_camps.data.toList.drop 71 = dktX1_camps_3 := dk_seg dksX1_camps_2 24 rfl rfl
theorem dksX1_camps_4 : cX1_camps.data.toList.drop 94 = dktX1_camps_4 := dk_seg dksX1_camps_3 23 rfl rfl
theorem dksX1_camps_5 : cX1_camps.data.toList.drop 117 = dktX1_camps_5 := dk_seg dksX1_camps_4 23 rfl rfl
theorem dksX1_camps_6 : cX1_camps.data.toList.drop 141 = dktX1_camps_6 := dk_seg dksX1_camps_5 24 rfl rfl
theorem dksX1_camps_7 : cX1_camps.data.toList.drop 165 = dktX1_camps_7 := dk_seg dksX1_camps_6 24 rfl rfl
theorem dX1_camps_0 : decode cX1_camps 0 = .ok (.iload_n 1, 1) := dk_27 (dk_at dksX1_camps_0 0 rfl rfl)
theorem dX1_camps_1 : decode cX1_camps 1 = .ok (.iconst 0, 1) := dk_3 (dk_at dksX1_camps_0 1 rfl rfl)
theorem dX1_camps_2 : decode cX1_camps 2 = .ok (.sipush 9999, 3) := dk_17 39 15 (dk_at dksX1_camps_0 2 rfl rfl)
theorem dX1_camps_5 : decode cX1_camps 5 = .ok (.invokestatic 134, 3) := dk_184 0 134 (dk_at dksX1_camps_0 5 rfl rfl)
theorem dX1_camps_8 : decode cX1_camps 8 = .ok (.ifCond .eq 22, 3) := dk_153 0 22 (dk_at dksX1_camps_0 8 rfl rfl)
theorem dX1_camps_11 : decode cX1_camps 11 = .ok (.iload_n 2, 1) := dk_28 (dk_at dksX1_camps_0 11 rfl rfl)
theorem dX1_camps_12 : decode cX1_camps 12 = .ok (.iconst 1, 1) := dk_4 (dk_at dksX1_camps_0 12 rfl rfl)
theorem dX1_camps_13 : decode cX1_camps 13 = .ok (.bipush 99, 2) := dk_16 99 (dk_at dksX1_camps_0 13 rfl rfl)
theorem dX1_camps_15 : decode cX1_camps 15 = .ok (.invokestatic 134, 3) := dk_184 0 134 (dk_at dksX1_camps_0 15 rfl rfl)
theorem dX1_camps_18 : decode cX1_camps 18 = .ok (.ifCond .eq 12, 3) := dk_153 0 12 (dk_at dksX1_camps_0 18 rfl rfl)
theorem dX1_camps_21 : decode cX1_camps 21 = .ok (.iload_n 3, 1) := dk_29 (dk_at dksX1_camps_0 21 rfl rfl)
theorem dX1_camps_22 : decode cX1_camps 22 = .ok (.iconst 0, 1) := dk_3 (dk_at dksX1_camps_0 22 rfl rfl)
theorem dX1_camps_23 : decode cX1_camps 23 = .ok (.iconst 2, 1) := dk_5 (dk_at dksX1_camps_0 23 rfl rfl)
theorem dX1_camps_24 : decode cX1_camps 24 = .ok (.invokestatic 134, 3) := dk_184 0 134 (dk_at dksX1_camps_1 0 rfl rfl)
theorem dX1_camps_27 : decode cX1_camps 27 = .ok (.ifCond .ne 5, 3) := dk_154 0 5 (dk_at dksX1_camps_1 3 rfl rfl)
theorem dX1_camps_30 : decode cX1_camps 30 = .ok (.iconst (-1), 1) := dk_2 (dk_at dksX1_camps_1 6 rfl rfl)
theorem dX1_camps_31 : decode cX1_camps 31 = .ok (.ireturn, 1) := dk_172 (dk_at dksX1_camps_1 7 rfl rfl)
theorem dX1_camps_32 : decode cX1_camps 32 = .ok (.aload_n 0, 1) := dk_42 (dk_at dksX1_camps_1 8 rfl rfl)
theorem dX1_camps_33 : decode cX1_camps 33 = .ok (.getfield 44, 3) := dk_180 0 44 (dk_at dksX1_camps_1 9 rfl rfl)
theorem dX1_camps_36 : decode cX1_camps 36 = .ok (.aload_n 0, 1) := dk_42 (dk_at dksX1_camps_1 12 rfl rfl)
theorem dX1_camps_37 : decode cX1_camps 37 = .ok (.getfield 40, 3) := dk_180 0 40 (dk_at dksX1_camps_1 13 rfl rfl)
theorem dX1_camps_40 : decode cX1_camps 40 = .ok (.invokevirtual 227, 3) := dk_182 0 227 (dk_at dksX1_camps_1 16 rfl rfl)
theorem dX1_camps_43 : decode cX1_camps 43 = .ok (.pop, 1) := dk_87 (dk_at dksX1_camps_1 19 rfl rfl)
theorem dX1_camps_44 : decode cX1_camps 44 = .ok (.aload_n 0, 1) := dk_42 (dk_at dksX1_camps_1 20 rfl rfl)
theorem dX1_camps_45 : decode cX1_camps 45 = .ok (.iload_n 1, 1) := dk_27 (dk_at dksX1_camps_1 21 rfl rfl)
theorem dX1_camps_46 : decode cX1_camps 46 = .ok (.i2l, 1) := dk_133 (dk_at dksX1_camps_1 22 rfl rfl)
theorem dX1_camps_47 : decode cX1_camps 47 = .ok (.putfield 318, 3) := dk_181 1 62 (dk_at dksX1_camps_2 0 rfl rfl)
theorem dX1_camps_50 : decode cX1_camps 50 = .ok (.iconst 0, 1) := dk_3 (dk_at dksX1_camps_2 3 rfl rfl)
theorem dX1_camps_51 : decode cX1_camps 51 = .ok (.istore 4, 2) := dk_54 4 (dk_at dksX1_camps_2 4 rfl rfl)
theorem dX1_camps_53 : decode cX1_camps 53 = .ok (.iconst 0, 1) := dk_3 (dk_at dksX1_camps_2 6 rfl rfl)
theorem dX1_camps_54 : decode cX1_camps 54 = .ok (.istore 5, 2) := dk_54 5 (dk_at dksX1_camps_2 7 rfl rfl)
theorem dX1_camps_56 : decode cX1_camps 56 = .ok (.iload 5, 2) := dk_21 5 (dk_at dksX1_camps_2 9 rfl rfl)
theorem dX1_camps_58 : decode cX1_camps 58 = .ok (.iload_n 2, 1) := dk_28 (dk_at dksX1_camps_2 11 rfl rfl)
theorem dX1_camps_59 : decode cX1_camps 59 = .ok (.if_icmp .ge 78, 3) := dk_162 0 78 (dk_at dksX1_camps_2 12 rfl rfl)
theorem dX1_camps_62 : decode cX1_camps 62 = .ok (.iconst 0, 1) := dk_3 (dk_at dksX1_camps_2 15 rfl rfl)
theorem dX1_camps_63 : decode cX1_camps 63 = .ok (.istore 6, 2) := dk_54 6 (dk_at dksX1_camps_2 16 rfl rfl)
theorem dX1_camps_65 : decode cX1_camps 65 = .ok (.iload 6, 2) := dk_21 6 (dk_at dksX1_camps_2 18 rfl rfl)
theorem dX1_camps_67 : decode cX1_camps 67 = .ok (.aload_n 0, 1) := dk_42 (dk_at dksX1_camps_2 20 rfl rfl)
theorem dX1_camps_68 : decode cX1_camps 68 = .ok (.invokevirtual 138, 3) := dk_182 0 138 (dk_at dksX1_camps_2 21 rfl rfl)
theorem dX1_camps_71 : decode cX1_camps 71 = .ok (.if_icmp .ge 52, 3) := dk_162 0 52 (dk_at dksX1_camps_3 0 rfl rfl)
theorem dX1_camps_74 : decode cX1_camps 74 = .ok (.aload_n 0, 1) := dk_42 (dk_at dksX1_camps_3 3 rfl rfl)
theorem dX1_camps_75 : decode cX1_camps 75 = .ok (.iconst 5, 1) := dk_8 (dk_at dksX1_camps_3 4 rfl rfl)
theorem dX1_camps_76 : decode cX1_camps 76 = .ok (.invokevirtual 330, 3) := dk_182 1 74 (dk_at dksX1_camps_3 5 rfl rfl)
theorem dX1_camps_79 : decode cX1_camps 79 = .ok (.istore 7, 2) := dk_54 7 (dk_at dksX1_camps_3 8 rfl rfl)
theorem dX1_camps_81 : decode cX1_camps 81 = .ok (.iload 7, 2) := dk_21 7 (dk_at dksX1_camps_3 10 rfl rfl)
theorem dX1_camps_83 : decode cX1_camps 83 = .ok (.ifCond .eq 34, 3) := dk_153 0 34 (dk_at dksX1_camps_3 12 rfl rfl)
theorem dX1_camps_86 : decode cX1_camps 86 = .ok (.aload_n 0, 1) := dk_42 (dk_at dksX1_camps_3 15 rfl rfl)
theorem dX1_camps_87 : decode cX1_camps 87 = .ok (.getfield 44, 3) := dk_180 0 44 (dk_at dksX1_camps_3 16 rfl rfl)
theorem dX1_camps_90 : decode cX1_camps 90 = .ok (.iload 6, 2) := dk_21 6 (dk_at dksX1_camps_3 19 rfl rfl)
theorem dX1_camps_92 : decode cX1_camps 92 = .ok (.iload 7, 2) := dk_21 7 (dk_at dksX1_camps_3 21 rfl rfl)
theorem dX1_camps_94 : decode cX1_camps 94 = .ok (.invokevirtual 197, 3) := dk_182 0 197 (dk_at dksX1_camps_4 0 rfl rfl)
theorem dX1_camps_97 : decode cX1_camps 97 = .ok (.ifCond .ne 6, 3) := dk_154 0 6 (dk_at dksX1_camps_4 3 rfl rfl)
theorem dX1_camps_100 : decode cX1_camps 100 = .ok (.goto 17, 3) := dk_167 0 17 (dk_at dksX1_camps_4 6 rfl rfl)
theorem dX1_camps_103 : decode cX1_camps 103 = .ok (.aload_n 0, 1) := dk_42 (dk_at dksX1_camps_4 9 rfl rfl)
theorem dX1_camps_104 : decode cX1_camps 104 = .ok (.getfield 44, 3) := dk_180 0 44 (dk_at dksX1_camps_4 10 rfl rfl)
theorem dX1_camps_107 : decode cX1_camps 107 = .ok (.iload 6, 2) := dk_21 6 (dk_at dksX1_camps_4 13 rfl rfl)
theorem dX1_camps_109 : decode cX1_camps 109 = .ok (.iload 7, 2) := dk_21 7 (dk_at dksX1_camps_4 15 rfl rfl)
theorem dX1_camps_111 : decode cX1_camps 111 = .ok (.invokevirtual 203, 3) := dk_182 0 203 (dk_at dksX1_camps_4 17 rfl rfl)
theorem dX1_camps_114 : decode cX1_camps 114 = .ok (.iinc 4 1, 3) := dk_132 4 1 (dk_at dksX1_camps_4 20 rfl rfl)
theorem dX1_camps_117 : decode cX1_camps 117 = .ok (.iinc 6 1, 3) := dk_132 6 1 (dk_at dksX1_camps_5 0 rfl rfl)
theorem dX1_camps_120 : decode cX1_camps 120 = .ok (.goto (-55), 3) := dk_167 255 201 (dk_at dksX1_camps_5 3 rfl rfl)
theorem dX1_camps_123 : decode cX1_camps 123 = .ok (.aload_n 0, 1) := dk_42 (dk_at dksX1_camps_5 6 rfl rfl)
theorem dX1_camps_124 : decode cX1_camps 124 = .ok (.getfield 44, 3) := dk_180 0 44 (dk_at dksX1_camps_5 7 rfl rfl)
theorem dX1_camps_127 : decode cX1_camps 127 = .ok (.invokevirtual 210, 3) := dk_182 0 210 (dk_at dksX1_camps_5 10 rfl rfl)
theorem dX1_camps_130 : decode cX1_camps 130 = .ok (.pop, 1) := dk_87 (dk_at dksX1_camps_5 13 rfl rfl)
theorem dX1_camps_131 : decode cX1_camps 131 = .ok (.iinc 5 1, 3) := dk_132 5 1 (dk_at dksX1_camps_5 14 rfl rfl)
theorem dX1_camps_134 : decode cX1_camps 134 = .ok (.goto (-78), 3) := dk_167 255 178 (dk_at dksX1_camps_5 17 rfl rfl)
theorem dX1_camps_137 : decode cX1_camps 137 = .ok (.iload_n 3, 1) := dk_29 (dk_at dksX1_camps_5 20 rfl rfl)
theorem dX1_camps_138 : decode cX1_camps 138 = .ok (.ifCond .ne 21, 3) := dk_154 0 21 (dk_at dksX1_camps_5 21 rfl rfl)
theorem dX1_camps_141 : decode cX1_camps 141 = .ok (.aload_n 0, 1) := dk_42 (dk_at dksX1_camps_6 0 rfl rfl)
theorem dX1_camps_142 : decode cX1_camps 142 = .ok (.getfield 44, 3) := dk_180 0 44 (dk_at dksX1_camps_6 1 rfl rfl)
theorem dX1_camps_145 : decode cX1_camps 145 = .ok (.getfield 226, 3) := dk_180 0 226 (dk_at dksX1_camps_6 4 rfl rfl)
theorem dX1_camps_148 : decode cX1_camps 148 = .ok (.aload_n 0, 1) := dk_42 (dk_at dksX1_camps_6 7 rfl rfl)
theorem dX1_camps_149 : decode cX1_camps 149 = .ok (.getfield 40, 3) := dk_180 0 40 (dk_at dksX1_camps_6 8 rfl rfl)
theorem dX1_camps_152 : decode cX1_camps 152 = .ok (.getfield 226, 3) := dk_180 0 226 (dk_at dksX1_camps_6 11 rfl rfl)
theorem dX1_camps_155 : decode cX1_camps 155 = .ok (.isub, 1) := dk_100 (dk_at dksX1_camps_6 14 rfl rfl)
theorem dX1_camps_156 : decode cX1_camps 156 = .ok (.goto 20, 3) := dk_167 0 20 (dk_at dksX1_camps_6 15 rfl rfl)
theorem dX1_camps_159 : decode cX1_camps 159 = .ok (.iload_n 3, 1) := dk_29 (dk_at dksX1_camps_6 18 rfl rfl)
theorem dX1_camps_160 : decode cX1_camps 160 = .ok (.iconst 1, 1) := dk_4 (dk_at dksX1_camps_6 19 rfl rfl)
theorem dX1_camps_161 : decode cX1_camps 161 = .ok (.if_icmp .ne 13, 3) := dk_160 0 13 (dk_at dksX1_camps_6 20 rfl rfl)
theorem dX1_camps_164 : decode cX1_camps 164 = .ok (.aload_n 0, 1) := dk_42 (dk_at dksX1_camps_6 23 rfl rfl)
theorem dX1_camps_165 : decode cX1_camps 165 = .ok (.getfield 44, 3) := dk_180 0 44 (dk_at dksX1_camps_7 0 rfl rfl)
theorem dX1_camps_168 : decode cX1_camps 168 = .ok (.getfield 170, 3) := dk_180 0 170 (dk_at dksX1_camps_7 3 rfl rfl)
theorem dX1_camps_171 : decode cX1_camps 171 = .ok (.goto 5, 3) := dk_167 0 5 (dk_at dksX1_camps_7 6 rfl rfl)
theorem dX1_camps_174 : decode cX1_camps 174 = .ok (.iload 4, 2) := dk_21 4 (dk_at dksX1_camps_7 9 rfl rfl)
theorem dX1_camps_176 : decode cX1_camps 176 = .ok (.ireturn, 1) := dk_172 (dk_at dksX1_camps_7 11 rfl rfl)
def dkwX1_draw_1 : List UInt8 := [20, 1, 72, 109, 27, 133, 113, 136, 172]
abbrev dktX1_draw_1 : List UInt8 := dkwX1_draw_1 ++ []
def dkwX1_draw_0 : List UInt8 := [42, 42, 180, 1, 62, 20, 1, 66, 105, 20, 1, 68, 97, 20, 1, 70, 113, 181, 1, 62, 42, 180, 1, 62]
abbrev dktX1_draw_0 : List UInt8 := dkwX1_draw_0 ++ dktX1_draw_1
theorem dksX1_draw_0 : cX1_draw.data.toList.drop 0 = dktX1_draw_0 := by decide +kernel
theorem dksX1_draw_1 : cX1_draw.data.toList.drop 24 = dktX1_draw_1 := dk_seg dksX1_draw_0 24 rfl rfl
theorem dX1_draw_0 : decode cX1_draw 0 = .ok (.aload_n 0, 1) := dk_42 (dk_at dksX1_draw_0 0 rfl rfl)
theorem dX1_draw_1 : decode cX1_draw 1 = .ok (.aload_n 0, 1) := dk_42 (dk_at dksX1_draw_0 1 rfl rfl)
theorem dX1_draw_2 : decode cX1_draw 2 = .ok (.getfield 318, 3) := dk_180 1 62 (dk_at dksX1_draw_0 2 rfl rfl)
theorem dX1_draw_5 : decode cX1_draw 5 = .ok (.ldc2_w 322, 3) := dk_20 1 66 (dk_at dksX1_draw_0 5 rfl rfl)
theorem dX1_draw_8 : decode cX1_draw 8 = .ok (.lmul, 1) := dk_105 (dk_at dksX1_draw_0 8 rfl rfl)
theorem dX1_draw_9 : decode cX1_draw 9 = .ok (.ldc2_w 324, 3) := dk_20 1 68 (dk_at dksX1_draw_0 9 rfl rfl)
theorem dX1_draw_12 : decode cX1_draw 12 = .ok (.ladd, 1) := dk_97 (dk_at dksX1_draw_0 12 rfl rfl)
theorem dX1_draw_13 : decode cX1_draw 13 = .ok (.ldc2_w 326, 3) := dk_20 1 70 (dk_at dksX1_draw_0 13 rfl rfl)
theorem dX1_draw_16 : decode cX1_draw 16 = .ok (.lrem, 1) := dk_113 (dk_at dksX1_draw_0 16 rfl rfl)
theorem dX1_draw_17 : decode cX1_draw 17 = .ok (.putfield 318, 3) := dk_181 1 62 (dk_at dksX1_draw_0 17 rfl rfl)
theorem dX1_draw_20 : decode cX1_draw 20 = .ok (.aload_n 0, 1) := dk_42 (dk_at dksX1_draw_0 20 rfl rfl)
theorem dX1_draw_21 : decode cX1_draw 21 = .ok (.getfield 318, 3) := dk_180 1 62 (dk_at dksX1_draw_0 21 rfl rfl)
theorem dX1_draw_24 : decode cX1_draw 24 = .ok (.ldc2_w 328, 3) := dk_20 1 72 (dk_at dksX1_draw_1 0 rfl rfl)
theorem dX1_draw_27 : decode cX1_draw 27 = .ok (.ldiv, 1) := dk_109 (dk_at dksX1_draw_1 3 rfl rfl)
theorem dX1_draw_28 : decode cX1_draw 28 = .ok (.iload_n 1, 1) := dk_27 (dk_at dksX1_draw_1 4 rfl rfl)
theorem dX1_draw_29 : decode cX1_draw 29 = .ok (.i2l, 1) := dk_133 (dk_at dksX1_draw_1 5 rfl rfl)
theorem dX1_draw_30 : decode cX1_draw 30 = .ok (.lrem, 1) := dk_113 (dk_at dksX1_draw_1 6 rfl rfl)
theorem dX1_draw_31 : decode cX1_draw 31 = .ok (.l2i, 1) := dk_136 (dk_at dksX1_draw_1 7 rfl rfl)
theorem dX1_draw_32 : decode cX1_draw 32 = .ok (.ireturn, 1) := dk_172 (dk_at dksX1_draw_1 8 rfl rfl)
def dkwX1_mark_4 : List UInt8 := [27, 50, 180, 1, 85, 184, 1, 77, 181, 0, 56, 42, 180, 0, 60, 182, 0, 104, 4, 172]
abbrev dktX1_mark_4 : List UInt8 := dkwX1_mark_4 ++ []
def dkwX1_mark_3 : List UInt8 := [182, 0, 189, 181, 0, 40, 42, 42, 180, 0, 88, 27, 50, 180, 1, 84, 181, 0, 52, 42, 42, 180, 0, 88]
abbrev dktX1_mark_3 : List UInt8 := dkwX1_mark_3 ++ dktX1_mark_4
def dkwX1_mark_2 : List UInt8 := [42, 180, 0, 56, 184, 1, 77, 183, 1, 80, 83, 4, 172, 42, 42, 180, 0, 88, 27, 50, 180, 1, 83]
abbrev dktX1_mark_2 : List UInt8 := dkwX1_mark_2 ++ dktX1_mark_3
def dkwX1_mark_1 : List UInt8 := [28, 154, 0, 36, 42, 180, 0, 88, 27, 187, 0, 86, 89, 42, 180, 0, 40, 182, 0, 189, 42, 180, 0, 52]
abbrev dktX1_mark_1 : List UInt8 := dkwX1_mark_1 ++ dktX1_mark_2
def dkwX1_mark_0 : List UInt8 := [27, 3, 6, 184, 0, 134, 153, 0, 16, 28, 153, 0, 14, 42, 180, 0, 88, 27, 50, 199, 0, 5, 3, 172]
abbrev dktX1_mark_0 : List UInt8 := dkwX1_mark_0 ++ dktX1_mark_1
theorem dksX1_mark_0 : cX1_mark.data.toList.drop 0 = dktX1_mark_0 := by decide +kernel
theorem dksX1_mark_1 : cX1_mark.data.toList.drop 24 = dktX1_mark_1 := dk_seg dksX1_mark_0 24 rfl rfl
theorem dksX1_mark_2 : cX1_mark.data.toList.drop 48 = dktX1_mark_2 := dk_seg dksX1_mark_1 24 rfl rfl
theorem dksX1_mark_3 : cX1_mark.data.toList.drop 71 = dktX1_mark_3 := dk_seg dksX1_mark_2 23 rfl rfl
theorem dksX1_mark_4 : cX1_mark.data.toList.drop 95 = dktX1_mark_4 := dk_seg dksX1_mark_3 24 rfl rfl
theorem dX1_mark_0 : decode cX1_mark 0 = .ok (.iload_n 1, 1) := dk_27 (dk_at dksX1_mark_0 0 rfl rfl)
theorem dX1_mark_1 : decode cX1_mark 1 = .ok (.iconst 0, 1) := dk_3 (dk_at dksX1_mark_0 1 rfl rfl)
theorem dX1_mark_2 : decode cX1_mark 2 = .ok (.iconst 3, 1) := dk_6 (dk_at dksX1_mark_0 2 rfl rfl)
theorem dX1_mark_3 : decode cX1_mark 3 = .ok (.invokestatic 134, 3) := dk_184 0 134 (dk_at dksX1_mark_0 3 rfl rfl)
theorem dX1_mark_6 : decode cX1_mark 6 = .ok (.ifCond .eq 16, 3) := dk_153 0 16 (dk_at dksX1_mark_0 6 rfl rfl)
theorem dX1_mark_9 : decode cX1_mark 9 = .ok (.iload_n 2, 1) := dk_28 (dk_at dksX1_mark_0 9 rfl rfl)
theorem dX1_mark_10 : decode cX1_mark 10 = .ok (.ifCond .eq 14, 3) := dk_153 0 14 (dk_at dksX1_mark_0 10 rfl rfl)
theorem dX1_mark_13 : decode cX1_mark 13 = .ok (.aload_n 0, 1) := dk_42 (dk_at dksX1_mark_0 13 rfl rfl)
theorem dX1_mark_14 : decode cX1_mark 14 = .ok (.getfield 88, 3) := dk_180 0 88 (dk_at dksX1_mark_0 14 rfl rfl)
theorem dX1_mark_17 : decode cX1_mark 17 = .ok (.iload_n 1, 1) := dk_27 (dk_at dksX1_mark_0 17 rfl rfl)
theorem dX1_mark_18 : decode cX1_mark 18 = .ok (.aaload, 1) := dk_50 (dk_at dksX1_mark_0 18 rfl rfl)
theorem dX1_mark_19 : decode cX1_mark 19 = .ok (.ifnonnull 5, 3) := dk_199 0 5 (dk_at dksX1_mark_0 19 rfl rfl)
theorem dX1_mark_22 : decode cX1_mark 22 = .ok (.iconst 0, 1) := dk_3 (dk_at dksX1_mark_0 22 rfl rfl)
theorem dX1_mark_23 : decode cX1_mark 23 = .ok (.ireturn, 1) := dk_172 (dk_at dksX1_mark_0 23 rfl rfl)
theorem dX1_mark_24 : decode cX1_mark 24 = .ok (.iload_n 2, 1) := dk_28 (dk_at dksX1_mark_1 0 rfl rfl)
theorem dX1_mark_25 : decode cX1_mark 25 = .ok (.ifCond .ne 36, 3) := dk_154 0 36 (dk_at dksX1_mark_1 1 rfl rfl)
theorem dX1_mark_28 : decode cX1_mark 28 = .ok (.aload_n 0, 1) := dk_42 (dk_at dksX1_mark_1 4 rfl rfl)
theorem dX1_mark_29 : decode cX1_mark 29 = .ok (.getfield 88, 3) := dk_180 0 88 (dk_at dksX1_mark_1 5 rfl rfl)
theorem dX1_mark_32 : decode cX1_mark 32 = .ok (.iload_n 1, 1) := dk_27 (dk_at dksX1_mark_1 8 rfl rfl)
theorem dX1_mark_33 : decode cX1_mark 33 = .ok (.new 86, 3) := dk_187 0 86 (dk_at dksX1_mark_1 9 rfl rfl)
theorem dX1_mark_36 : decode cX1_mark 36 = .ok (.dup, 1) := dk_89 (dk_at dksX1_mark_1 12 rfl rfl)
theorem dX1_mark_37 : decode cX1_mark 37 = .ok (.aload_n 0, 1) := dk_42 (dk_at dksX1_mark_1 13 rfl rfl)
theorem dX1_mark_38 : decode cX1_mark 38 = .ok (.getfield 40, 3) := dk_180 0 40 (dk_at dksX1_mark_1 14 rfl rfl)
theorem dX1_mark_41 : decode cX1_mark 41 = .ok (.invokevirtual 189, 3) := dk_182 0 189 (dk_at dksX1_mark_1 17 rfl rfl)
theorem dX1_mark_44 : decode cX1_mark 44 = .ok (.aload_n 0, 1) := dk_42 (dk_at dksX1_mark_1 20 rfl rfl)
theorem dX1_mark_45 : decode cX1_mark 45 = .ok (.getfield 52, 3) := dk_180 0 52 (dk_at dksX1_mark_1 21 rfl rfl)
theorem dX1_mark_48 : decode cX1_mark 48 = .ok (.aload_n 0, 1) := dk_42 (dk_at dksX1_mark_2 0 rfl rfl)
theorem dX1_mark_49 : decode cX1_mark 49 = .ok (.getfield 56, 3) := dk_180 0 56 (dk_at dksX1_mark_2 1 rfl rfl)
theorem dX1_mark_52 : decode cX1_mark 52 = .ok (.invokestatic 333, 3) := dk_184 1 77 (dk_at dksX1_mark_2 4 rfl rfl)
theorem dX1_mark_55 : decode cX1_mark 55 = .ok (.invokespecial 336, 3) := dk_183 1 80 (dk_at dksX1_mark_2 7 rfl rfl)
theorem dX1_mark_58 : decode cX1_mark 58 = .ok (.aastore, 1) := dk_83 (dk_at dksX1_mark_2 10 rfl rfl)
theorem dX1_mark_59 : decode cX1_mark 59 = .ok (.iconst 1, 1) := dk_4 (dk_at dksX1_mark_2 11 rfl rfl)
theorem dX1_mark_60 : decode cX1_mark 60 = .ok (.ireturn, 1) := dk_172 (dk_at dksX1_mark_2 12 rfl rfl)
theorem dX1_mark_61 : decode cX1_mark 61 = .ok (.aload_n 0, 1) := dk_42 (dk_at dksX1_mark_2 13 rfl rfl)
theorem dX1_mark_62 : decode cX1_mark 62 = .ok (.aload_n 0, 1) := dk_42 (dk_at dksX1_mark_2 14 rfl rfl)
theorem dX1_mark_63 : decode cX1_mark 63 = .ok (.getfield 88, 3) := dk_180 0 88 (dk_at dksX1_mark_2 15 rfl rfl)
theorem dX1_mark_66 : decode cX1_mark 66 = .ok (.iload_n 1, 1) := dk_27 (dk_at dksX1_mark_2 18 rfl rfl)
theorem dX1_mark_67 : decode cX1_mark 67 = .ok (.aaload, 1) := dk_50 (dk_at dksX1_mark_2 19 rfl rfl)
theorem dX1_mark_68 : decode cX1_mark 68 = .ok (.getfield 339, 3) := dk_180 1 83 (dk_at dksX1_mark_2 20 rfl rfl)
theorem dX1_mark_71 : decode cX1_mark 71 = .ok (.invokevirtual 189, 3) := dk_182 0 189 (dk_at dksX1_mark_3 0 rfl rfl)
theorem dX1_mark_74 : decode cX1_mark 74 = .ok (.putfield 40, 3) := dk_181 0 40 (dk_at dksX1_mark_3 3 rfl rfl)
theorem dX1_mark_77 : decode cX1_mark 77 = .ok (.aload_n 0, 1) := dk_42 (dk_at dksX1_mark_3 6 rfl rfl)
theorem dX1_mark_78 : decode cX1_mark 78 = .ok (.aload_n 0, 1) := dk_42 (dk_at dksX1_mark_3 7 rfl rfl)
theorem dX1_mark_79 : decode cX1_mark 79 = .ok (.getfield 88, 3) := dk_180 0 88 (dk_at dksX1_mark_3 8 rfl rfl)
theorem dX1_mark_82 : decode cX1_mark 82 = .ok (.iload_n 1, 1) := dk_27 (dk_at dksX1_mark_3 11 rfl rfl)
theorem dX1_mark_83 : decode cX1_mark 83 = .ok (.aaload, 1) := dk_50 (dk_at dksX1_mark_3 12 rfl rfl)
theorem dX1_mark_84 : decode cX1_mark 84 = .ok (.getfield 340, 3) := dk_180 1 84 (dk_at dksX1_mark_3 13 rfl rfl)
theorem dX1_mark_87 : decode cX1_mark 87 = .ok (.putfield 52, 3) := dk_181 0 52 (dk_at dksX1_mark_3 16 rfl rfl)
theorem dX1_mark_90 : decode cX1_mark 90 = .ok (.aload_n 0, 1) := dk_42 (dk_at dksX1_mark_3 19 rfl rfl)
theorem dX1_mark_91 : decode cX1_mark 91 = .ok (.aload_n 0, 1) := dk_42 (dk_at dksX1_mark_3 20 rfl rfl)
theorem dX1_mark_92 : decode cX1_mark 92 = .ok (.getfield 88, 3) := dk_180 0 88 (dk_at dksX1_mark_3 21 rfl rfl)
theorem dX1_mark_95 : decode cX1_mark 95 = .ok (.iload_n 1, 1) := dk_27 (dk_at dksX1_mark_4 0 rfl rfl)
theorem dX1_mark_96 : decode cX1_mark 96 = .ok (.aaload, 1) := dk_50 (dk_at dksX1_mark_4 1 rfl rfl)
theorem dX1_mark_97 : decode cX1_mark 97 = .ok (.getfield 341, 3) := dk_180 1 85 (dk_at dksX1_mark_4 2 rfl rfl)
theorem dX1_mark_100 : decode cX1_mark 100 = .ok (.invokestatic 333, 3) := dk_184 1 77 (dk_at dksX1_mark_4 5 rfl rfl)
theorem dX1_mark_103 : decode cX1_mark 103 = .ok (.putfield 56, 3) := dk_181 0 56 (dk_at dksX1_mark_4 8 rfl rfl)
theorem dX1_mark_106 : decode cX1_mark 106 = .ok (.aload_n 0, 1) := dk_42 (dk_at dksX1_mark_4 11 rfl rfl)
theorem dX1_mark_107 : decode cX1_mark 107 = .ok (.getfield 60, 3) := dk_180 0 60 (dk_at dksX1_mark_4 12 rfl rfl)
theorem dX1_mark_110 : decode cX1_mark 110 = .ok (.invokevirtual 104, 3) := dk_182 0 104 (dk_at dksX1_mark_4 15 rfl rfl)
theorem dX1_mark_113 : decode cX1_mark 113 = .ok (.iconst 1, 1) := dk_4 (dk_at dksX1_mark_4 18 rfl rfl)
theorem dX1_mark_114 : decode cX1_mark 114 = .ok (.ireturn, 1) := dk_172 (dk_at dksX1_mark_4 19 rfl rfl)
def dkwX1_copied_1 : List UInt8 := [182, 0, 217, 192, 1, 24, 182, 0, 193, 87, 132, 2, 1, 167, 255, 232, 43, 176]
abbrev dktX1_copied_1 : List UInt8 := dkwX1_copied_1 ++ []
def dkwX1_copied_0 : List UInt8 := [187, 0, 47, 89, 5, 183, 0, 49, 76, 3, 61, 28, 42, 182, 0, 125, 162, 0, 22, 43, 42, 28]
abbrev dktX1_copied_0 : List UInt8 := dkwX1_copied_0 ++ dktX1_copied_1
theorem dksX1_copied_0 : cX1_copied.data.toList.drop 0 = dktX1_copied_0 := by decide +kernel
theorem dksX1_copied_1 : cX1_copied.data.toList.drop 22 = dktX1_copied_1 := dk_seg dksX1_copied_0 22 rfl rfl
theorem dX1_copied_0 : decode cX1_copied 0 = .ok (.new 47, 3) := dk_187 0 47 (dk_at dksX1_copied_0 0 rfl rfl)
theorem dX1_copied_3 : decode cX1_copied 3 = .ok (.dup, 1) := dk_89 (dk_at dksX1_copied_0 3 rfl rfl)
theorem dX1_copied_4 : decode cX1_copied 4 = .ok (.iconst 2, 1) := dk_5 (dk_at dksX1_copied_0 4 rfl rfl)
theorem dX1_copied_5 : decode cX1_copied 5 = .ok (.invokespecial 49, 3) := dk_183 0 49 (dk_at dksX1_copied_0 5 rfl rfl)
theorem dX1_copied_8 : decode cX1_copied 8 = .ok (.astore_n 1, 1) := dk_76 (dk_at dksX1_copied_0 8 rfl rfl)
theorem dX1_copied_9 : decode cX1_copied 9 = .ok (.iconst 0, 1) := dk_3 (dk_at dksX1_copied_0 9 rfl rfl)
theorem dX1_copied_10 : decode cX1_copied 10 = .ok (.istore_n 2, 1) := dk_61 (dk_at dksX1_copied_0 10 rfl rfl)
theorem dX1_copied_11 : decode cX1_copied 11 = .ok (.iload_n 2, 1) := dk_28 (dk_at dksX1_copied_0 11 rfl rfl)
theorem dX1_copied_12 : decode cX1_copied 12 = .ok (.aload_n 0, 1) := dk_42 (dk_at dksX1_copied_0 12 rfl rfl)
theorem dX1_copied_13 : decode cX1_copied 13 = .ok (.invokevirtual 125, 3) := dk_182 0 125 (dk_at dksX1_copied_0 13 rfl rfl)
theorem dX1_copied_16 : decode cX1_copied 16 = .ok (.if_icmp .ge 22, 3) := dk_162 0 22 (dk_at dksX1_copied_0 16 rfl rfl)
theorem dX1_copied_19 : decode cX1_copied 19 = .ok (.aload_n 1, 1) := dk_43 (dk_at dksX1_copied_0 19 rfl rfl)
theorem dX1_copied_20 : decode cX1_copied 20 = .ok (.aload_n 0, 1) := dk_42 (dk_at dksX1_copied_0 20 rfl rfl)
theorem dX1_copied_21 : decode cX1_copied 21 = .ok (.iload_n 2, 1) := dk_28 (dk_at dksX1_copied_0 21 rfl rfl)
theorem dX1_copied_22 : decode cX1_copied 22 = .ok (.invokevirtual 217, 3) := dk_182 0 217 (dk_at dksX1_copied_1 0 rfl rfl)
theorem dX1_copied_25 : decode cX1_copied 25 = .ok (.checkcast 280, 3) := dk_192 1 24 (dk_at dksX1_copied_1 3 rfl rfl)
theorem dX1_copied_28 : decode cX1_copied 28 = .ok (.invokevirtual 193, 3) := dk_182 0 193 (dk_at dksX1_copied_1 6 rfl rfl)
theorem dX1_copied_31 : decode cX1_copied 31 = .ok (.pop, 1) := dk_87 (dk_at dksX1_copied_1 9 rfl rfl)
theorem dX1_copied_32 : decode cX1_copied 32 = .ok (.iinc 2 1, 3) := dk_132 2 1 (dk_at dksX1_copied_1 10 rfl rfl)
theorem dX1_copied_35 : decode cX1_copied 35 = .ok (.goto (-24), 3) := dk_167 255 232 (dk_at dksX1_copied_1 13 rfl rfl)
theorem dX1_copied_38 : decode cX1_copied 38 = .ok (.aload_n 1, 1) := dk_43 (dk_at dksX1_copied_1 16 rfl rfl)
theorem dX1_copied_39 : decode cX1_copied 39 = .ok (.areturn, 1) := dk_176 (dk_at dksX1_copied_1 17 rfl rfl)
def dkwX1_count_6 : List UInt8 := [182, 0, 125, 172, 42, 182, 0, 112, 182, 1, 92, 172, 42, 180, 0, 24, 180, 0, 96, 172, 2, 172]
abbrev dktX1_count_6 : List UInt8 := dkwX1_count_6 ++ []
def dkwX1_count_5 : List UInt8 := [180, 0, 144, 172, 42, 180, 0, 52, 182, 0, 125, 172, 42, 180, 0, 56, 182, 0, 125, 172, 42, 180, 0, 60]
abbrev dktX1_count_5 : List UInt8 := dkwX1_count_5 ++ dktX1_count_6
def dkwX1_count_4 : List UInt8 := [182, 0, 241, 172, 42, 180, 0, 40, 180, 0, 170, 172, 42, 180, 0, 40, 180, 0, 226, 172, 42, 180, 0, 40]
abbrev dktX1_count_4 : List UInt8 := dkwX1_count_4 ++ dktX1_count_5
def dkwX1_count_3 : List UInt8 := [182, 0, 138, 172, 42, 180, 0, 40, 180, 0, 238, 172, 42, 182, 0, 112, 42, 180, 0, 40, 180, 0, 238]
abbrev dktX1_count_3 : List UInt8 := dkwX1_count_3 ++ dktX1_count_4
def dkwX1_count_2 : List UInt8 := [42, 182, 0, 112, 180, 1, 86, 172, 42, 182, 0, 112, 180, 1, 89, 172, 42, 182, 0, 132, 172, 42]
abbrev dktX1_count_2 : List UInt8 := dkwX1_count_2 ++ dktX1_count_3
def dkwX1_count_1 : List UInt8 := [170, 0, 0, 0, 0, 0, 184, 0, 0, 0, 0, 0, 0, 0, 13, 0, 0, 0, 71, 0, 0, 0, 79, 0, 0, 0, 87, 0, 0, 0, 92, 0, 0, 0, 97, 0, 0, 0, 105, 0, 0, 0, 120, 0, 0, 0, 128, 0, 0, 0, 136, 0, 0, 0, 144, 0, 0, 0, 152, 0, 0, 0, 160, 0, 0, 0, 168, 0, 0, 0, 176]
abbrev dktX1_count_1 : List UInt8 := dkwX1_count_1 ++ dktX1_count_2
def dkwX1_count_0 : List UInt8 := [27]
abbrev dktX1_count_0 : List UInt8 := dkwX1_count_0 ++ dktX1_count_1
theorem dksX1_count_0 : cX1_count.data.toList.drop 0 = dktX1_count_0 := by decide +kernel
theorem dksX1_count_1 : cX1_count.data.toList.drop 1 = dktX1_count_1 := dk_seg dksX1_count_0 1 rfl rfl
theorem dksX1_count_2 : cX1_count.data.toList.drop 72 = dktX1_count_2 := dk_seg dksX1_count_1 71 rfl rfl
theorem dksX1_count_3 : cX1_count.data.toList.drop 94 = dktX1_count_3 := dk_seg dksX1_count_2 22 rfl rfl
theorem dksX1_count_4 : cX1_count.data.toList.drop 117 = dktX1_count_4 := dk_seg dksX1_count_3 23 rfl rfl
theorem dksX1_count_5 : cX1_count.data.toList.drop 141 = dktX1_count_5 := dk_seg dksX1_count_4 24 rfl rfl
theorem dksX1_count_6 : cX1_count.data.toList.drop 165 = dktX1_count_6 := dk_seg dksX1_count_5 24 rfl rfl
theorem dX1_count_0 : decode cX1_count 0 = .ok (.iload_n 1, 1) := dk_27 (dk_at dksX1_count_0 0 rfl rfl)
theorem dX1_count_1 : decode cX1_count 1 = .ok (.tableswitch 184 0 13 #[71, 79, 87, 92, 97, 105, 120, 128, 136, 144, 152, 160, 168, 176], 71) := by decide +kernel
theorem dX1_count_72 : decode cX1_count 72 = .ok (.aload_n 0, 1) := dk_42 (dk_at dksX1_count_2 0 rfl rfl)
theorem dX1_count_73 : decode cX1_count 73 = .ok (.invokevirtual 112, 3) := dk_182 0 112 (dk_at dksX1_count_2 1 rfl rfl)
theorem dX1_count_76 : decode cX1_count 76 = .ok (.getfield 342, 3) := dk_180 1 86 (dk_at dksX1_count_2 4 rfl rfl)
theorem dX1_count_79 : decode cX1_count 79 = .ok (.ireturn, 1) := dk_172 (dk_at dksX1_count_2 7 rfl rfl)
theorem dX1_count_80 : decode cX1_count 80 = .ok (.aload_n 0, 1) := dk_42 (dk_at dksX1_count_2 8 rfl rfl)
theorem dX1_count_81 : decode cX1_count 81 = .ok (.invokevirtual 112, 3) := dk_182 0 112 (dk_at dksX1_count_2 9 rfl rfl)
theorem dX1_count_84 : decode cX1_count 84 = .ok (.getfield 345, 3) := dk_180 1 89 (dk_at dksX1_count_2 12 rfl rfl)
theorem dX1_count_87 : decode cX1_count 87 = .ok (.ireturn, 1) := dk_172 (dk_at dksX1_count_2 15 rfl rfl)
theorem dX1_count_88 : decode cX1_count 88 = .ok (.aload_n 0, 1) := dk_42 (dk_at dksX1_count_2 16 rfl rfl)
theorem dX1_count_89 : decode cX1_count 89 = .ok (.invokevirtual 132, 3) := dk_182 0 132 (dk_at dksX1_count_2 17 rfl rfl)
theorem dX1_count_92 : decode cX1_count 92 = .ok (.ireturn, 1) := dk_172 (dk_at dksX1_count_2 20 rfl rfl)
theorem dX1_count_93 : decode cX1_count 93 = .ok (.aload_n 0, 1) := dk_42 (dk_at dksX1_count_2 21 rfl rfl)
theorem dX1_count_94 : decode cX1_count 94 = .ok (.invokevirtual 138, 3) := dk_182 0 138 (dk_at dksX1_count_3 0 rfl rfl)
theorem dX1_count_97 : decode cX1_count 97 = .ok (.ireturn, 1) := dk_172 (dk_at dksX1_count_3 3 rfl rfl)
theorem dX1_count_98 : decode cX1_count 98 = .ok (.aload_n 0, 1) := dk_42 (dk_at dksX1_count_3 4 rfl rfl)
theorem dX1_count_99 : decode cX1_count 99 = .ok (.getfield 40, 3) := dk_180 0 40 (dk_at dksX1_count_3 5 rfl rfl)
theorem dX1_count_102 : decode cX1_count 102 = .ok (.getfield 238, 3) := dk_180 0 238 (dk_at dksX1_count_3 8 rfl rfl)
theorem dX1_count_105 : decode cX1_count 105 = .ok (.ireturn, 1) := dk_172 (dk_at dksX1_count_3 11 rfl rfl)
theorem dX1_count_106 : decode cX1_count 106 = .ok (.aload_n 0, 1) := dk_42 (dk_at dksX1_count_3 12 rfl rfl)
theorem dX1_count_107 : decode cX1_count 107 = .ok (.invokevirtual 112, 3) := dk_182 0 112 (dk_at dksX1_count_3 13 rfl rfl)
theorem dX1_count_110 : decode cX1_count 110 = .ok (.aload_n 0, 1) := dk_42 (dk_at dksX1_count_3 16 rfl rfl)
theorem dX1_count_111 : decode cX1_count 111 = .ok (.getfield 40, 3) := dk_180 0 40 (dk_at dksX1_count_3 17 rfl rfl)
theorem dX1_count_114 : decode cX1_count 114 = .ok (.getfield 238, 3) := dk_180 0 238 (dk_at dksX1_count_3 20 rfl rfl)
theorem dX1_count_117 : decode cX1_count 117 = .ok (.invokevirtual 241, 3) := dk_182 0 241 (dk_at dksX1_count_4 0 rfl rfl)
theorem dX1_count_120 : decode cX1_count 120 = .ok (.ireturn, 1) := dk_172 (dk_at dksX1_count_4 3 rfl rfl)
theorem dX1_count_121 : decode cX1_count 121 = .ok (.aload_n 0, 1) := dk_42 (dk_at dksX1_count_4 4 rfl rfl)
theorem dX1_count_122 : decode cX1_count 122 = .ok (.getfield 40, 3) := dk_180 0 40 (dk_at dksX1_count_4 5 rfl rfl)
theorem dX1_count_125 : decode cX1_count 125 = .ok (.getfield 170, 3) := dk_180 0 170 (dk_at dksX1_count_4 8 rfl rfl)
theorem dX1_count_128 : decode cX1_count 128 = .ok (.ireturn, 1) := dk_172 (dk_at dksX1_count_4 11 rfl rfl)
theorem dX1_count_129 : decode cX1_count 129 = .ok (.aload_n 0, 1) := dk_42 (dk_at dksX1_count_4 12 rfl rfl)
theorem dX1_count_130 : decode cX1_count 130 = .ok (.getfield 40, 3) := dk_180 0 40 (dk_at dksX1_count_4 13 rfl rfl)
theorem dX1_count_133 : decode cX1_count 133 = .ok (.getfield 226, 3) := dk_180 0 226 (dk_at dksX1_count_4 16 rfl rfl)
theorem dX1_count_136 : decode cX1_count 136 = .ok (.ireturn, 1) := dk_172 (dk_at dksX1_count_4 19 rfl rfl)
theorem dX1_count_137 : decode cX1_count 137 = .ok (.aload_n 0, 1) := dk_42 (dk_at dksX1_count_4 20 rfl rfl)
theorem dX1_count_138 : decode cX1_count 138 = .ok (.getfield 40, 3) := dk_180 0 40 (dk_at dksX1_count_4 21 rfl rfl)
theorem dX1_count_141 : decode cX1_count 141 = .ok (.getfield 144, 3) := dk_180 0 144 (dk_at dksX1_count_5 0 rfl rfl)
theorem dX1_count_144 : decode cX1_count 144 = .ok (.ireturn, 1) := dk_172 (dk_at dksX1_count_5 3 rfl rfl)
theorem dX1_count_145 : decode cX1_count 145 = .ok (.aload_n 0, 1) := dk_42 (dk_at dksX1_count_5 4 rfl rfl)
theorem dX1_count_146 : decode cX1_count 146 = .ok (.getfield 52, 3) := dk_180 0 52 (dk_at dksX1_count_5 5 rfl rfl)
theorem dX1_count_149 : decode cX1_count 149 = .ok (.invokevirtual 125, 3) := dk_182 0 125 (dk_at dksX1_count_5 8 rfl rfl)
theorem dX1_count_152 : decode cX1_count 152 = .ok (.ireturn, 1) := dk_172 (dk_at dksX1_count_5 11 rfl rfl)
theorem dX1_count_153 : decode cX1_count 153 = .ok (.aload_n 0, 1) := dk_42 (dk_at dksX1_count_5 12 rfl rfl)
theorem dX1_count_154 : decode cX1_count 154 = .ok (.getfield 56, 3) := dk_180 0 56 (dk_at dksX1_count_5 13 rfl rfl)
theorem dX1_count_157 : decode cX1_count 157 = .ok (.invokevirtual 125, 3) := dk_182 0 125 (dk_at dksX1_count_5 16 rfl rfl)
theorem dX1_count_160 : decode cX1_count 160 = .ok (.ireturn, 1) := dk_172 (dk_at dksX1_count_5 19 rfl rfl)
theorem dX1_count_161 : decode cX1_count 161 = .ok (.aload_n 0, 1) := dk_42 (dk_at dksX1_count_5 20 rfl rfl)
theorem dX1_count_162 : decode cX1_count 162 = .ok (.getfield 60, 3) := dk_180 0 60 (dk_at dksX1_count_5 21 rfl rfl)
theorem dX1_count_165 : decode cX1_count 165 = .ok (.invokevirtual 125, 3) := dk_182 0 125 (dk_at dksX1_count_6 0 rfl rfl)
theorem dX1_count_168 : decode cX1_count 168 = .ok (.ireturn, 1) := dk_172 (dk_at dksX1_count_6 3 rfl rfl)
theorem dX1_count_169 : decode cX1_count 169 = .ok (.aload_n 0, 1) := dk_42 (dk_at dksX1_count_6 4 rfl rfl)
theorem dX1_count_170 : decode cX1_count 170 = .ok (.invokevirtual 112, 3) := dk_182 0 112 (dk_at dksX1_count_6 5 rfl rfl)
theorem dX1_count_173 : decode cX1_count 173 = .ok (.invokevirtual 348, 3) := dk_182 1 92 (dk_at dksX1_count_6 8 rfl rfl)
theorem dX1_count_176 : decode cX1_count 176 = .ok (.ireturn, 1) := dk_172 (dk_at dksX1_count_6 11 rfl rfl)
theorem dX1_count_177 : decode cX1_count 177 = .ok (.aload_n 0, 1) := dk_42 (dk_at dksX1_count_6 12 rfl rfl)
theorem dX1_count_178 : decode cX1_count 178 = .ok (.getfield 24, 3) := dk_180 0 24 (dk_at dksX1_count_6 13 rfl rfl)
theorem dX1_count_181 : decode cX1_count 181 = .ok (.getfield 96, 3) := dk_180 0 96 (dk_at dksX1_count_6 16 rfl rfl)
theorem dX1_count_184 : decode cX1_count 184 = .ok (.ireturn, 1) := dk_172 (dk_at dksX1_count_6 19 rfl rfl)
theorem dX1_count_185 : decode cX1_count 185 = .ok (.iconst (-1), 1) := dk_2 (dk_at dksX1_count_6 20 rfl rfl)
theorem dX1_count_186 : decode cX1_count 186 = .ok (.ireturn, 1) := dk_172 (dk_at dksX1_count_6 21 rfl rfl)
def dkwX1_rests_5 : List UInt8 := [167, 0, 4, 3, 184, 1, 54, 21, 5, 172]
abbrev dktX1_rests_5 : List UInt8 := dkwX1_rests_5 ++ []
def dkwX1_rests_4 : List UInt8 := [160, 0, 6, 21, 6, 172, 132, 5, 1, 132, 6, 1, 167, 255, 198, 21, 4, 2, 160, 0, 7, 4]
abbrev dktX1_rests_4 : List UInt8 := dkwX1_rests_4 ++ dktX1_rests_5
def dkwX1_rests_3 : List UInt8 := [160, 0, 7, 4, 167, 0, 4, 3, 27, 28, 29, 184, 1, 58, 154, 0, 6, 167, 0, 16, 21, 5, 21, 4]
abbrev dktX1_rests_3 : List UInt8 := dkwX1_rests_3 ++ dktX1_rests_4
def dkwX1_rests_2 : List UInt8 := [54, 6, 21, 6, 7, 162, 0, 58, 21, 6, 4, 164, 0, 7, 4, 167, 0, 4, 3, 21, 6, 5, 112, 4]
abbrev dktX1_rests_2 : List UInt8 := dkwX1_rests_2 ++ dktX1_rests_3
def dkwX1_rests_1 : List UInt8 := [184, 0, 134, 153, 0, 13, 21, 4, 2, 161, 0, 7, 4, 167, 0, 4, 3, 184, 1, 54, 3, 54, 5, 3]
abbrev dktX1_rests_1 : List UInt8 := dkwX1_rests_1 ++ dktX1_rests_2
def dkwX1_rests_0 : List UInt8 := [27, 3, 16, 9, 184, 0, 134, 153, 0, 33, 28, 3, 16, 9, 184, 0, 134, 153, 0, 23, 29, 3, 16, 9]
abbrev dktX1_rests_0 : List UInt8 := dkwX1_rests_0 ++ dktX1_rests_1
theorem dksX1_rests_0 : cX1_rests.data.toList.drop 0 = dktX1_rests_0 := by decide +kernel
theorem dksX1_rests_1 : cX1_rests.data.toList.drop 24 = dktX1_rests_1 := dk_seg dksX1_rests_0 24 rfl rfl
theorem dksX1_rests_2 : cX1_rests.data.toList.drop 48 = dktX1_rests_2 := dk_seg dksX1_rests_1 24 rfl rfl
theorem dksX1_rests_3 : cX1_rests.data.toList.drop 72 = dktX1_rests_3 := dk_seg dksX1_rests_2 24 rfl rfl
theorem dksX1_rests_4 : cX1_rests.data.toList.drop 96 = dktX1_rests_4 := dk_seg dksX1_rests_3 24 rfl rfl
theorem dksX1_rests_5 : cX1_rests.data.toList.drop 118 = dktX1_rests_5 := dk_seg dksX1_rests_4 22 rfl rfl
theorem dX1_rests_0 : decode cX1_rests 0 = .ok (.iload_n 1, 1) := dk_27 (dk_at dksX1_rests_0 0 rfl rfl)
theorem dX1_rests_1 : decode cX1_rests 1 = .ok (.iconst 0, 1) := dk_3 (dk_at dksX1_rests_0 1 rfl rfl)
theorem dX1_rests_2 : decode cX1_rests 2 = .ok (.bipush 9, 2) := dk_16 9 (dk_at dksX1_rests_0 2 rfl rfl)
theorem dX1_rests_4 : decode cX1_rests 4 = .ok (.invokestatic 134, 3) := dk_184 0 134 (dk_at dksX1_rests_0 4 rfl rfl)
theorem dX1_rests_7 : decode cX1_rests 7 = .ok (.ifCond .eq 33, 3) := dk_153 0 33 (dk_at dksX1_rests_0 7 rfl rfl)
theorem dX1_rests_10 : decode cX1_rests 10 = .ok (.iload_n 2, 1) := dk_28 (dk_at dksX1_rests_0 10 rfl rfl)
theorem dX1_rests_11 : decode cX1_rests 11 = .ok (.iconst 0, 1) := dk_3 (dk_at dksX1_rests_0 11 rfl rfl)
theorem dX1_rests_12 : decode cX1_rests 12 = .ok (.bipush 9, 2) := dk_16 9 (dk_at dksX1_rests_0 12 rfl rfl)
theorem dX1_rests_14 : decode cX1_rests 14 = .ok (.invokestatic 134, 3) := dk_184 0 134 (dk_at dksX1_rests_0 14 rfl rfl)
theorem dX1_rests_17 : decode cX1_rests 17 = .ok (.ifCond .eq 23, 3) := dk_153 0 23 (dk_at dksX1_rests_0 17 rfl rfl)
theorem dX1_rests_20 : decode cX1_rests 20 = .ok (.iload_n 3, 1) := dk_29 (dk_at dksX1_rests_0 20 rfl rfl)
theorem dX1_rests_21 : decode cX1_rests 21 = .ok (.iconst 0, 1) := dk_3 (dk_at dksX1_rests_0 21 rfl rfl)
theorem dX1_rests_22 : decode cX1_rests 22 = .ok (.bipush 9, 2) := dk_16 9 (dk_at dksX1_rests_0 22 rfl rfl)
theorem dX1_rests_24 : decode cX1_rests 24 = .ok (.invokestatic 134, 3) := dk_184 0 134 (dk_at dksX1_rests_1 0 rfl rfl)
theorem dX1_rests_27 : decode cX1_rests 27 = .ok (.ifCond .eq 13, 3) := dk_153 0 13 (dk_at dksX1_rests_1 3 rfl rfl)
theorem dX1_rests_30 : decode cX1_rests 30 = .ok (.iload 4, 2) := dk_21 4 (dk_at dksX1_rests_1 6 rfl rfl)
theorem dX1_rests_32 : decode cX1_rests 32 = .ok (.iconst (-1), 1) := dk_2 (dk_at dksX1_rests_1 8 rfl rfl)
theorem dX1_rests_33 : decode cX1_rests 33 = .ok (.if_icmp .lt 7, 3) := dk_161 0 7 (dk_at dksX1_rests_1 9 rfl rfl)
theorem dX1_rests_36 : decode cX1_rests 36 = .ok (.iconst 1, 1) := dk_4 (dk_at dksX1_rests_1 12 rfl rfl)
theorem dX1_rests_37 : decode cX1_rests 37 = .ok (.goto 4, 3) := dk_167 0 4 (dk_at dksX1_rests_1 13 rfl rfl)
theorem dX1_rests_40 : decode cX1_rests 40 = .ok (.iconst 0, 1) := dk_3 (dk_at dksX1_rests_1 16 rfl rfl)
theorem dX1_rests_41 : decode cX1_rests 41 = .ok (.invokestatic 310, 3) := dk_184 1 54 (dk_at dksX1_rests_1 17 rfl rfl)
theorem dX1_rests_44 : decode cX1_rests 44 = .ok (.iconst 0, 1) := dk_3 (dk_at dksX1_rests_1 20 rfl rfl)
theorem dX1_rests_45 : decode cX1_rests 45 = .ok (.istore 5, 2) := dk_54 5 (dk_at dksX1_rests_1 21 rfl rfl)
theorem dX1_rests_47 : decode cX1_rests 47 = .ok (.iconst 0, 1) := dk_3 (dk_at dksX1_rests_1 23 rfl rfl)
theorem dX1_rests_48 : decode cX1_rests 48 = .ok (.istore 6, 2) := dk_54 6 (dk_at dksX1_rests_2 0 rfl rfl)
theorem dX1_rests_50 : decode cX1_rests 50 = .ok (.iload 6, 2) := dk_21 6 (dk_at dksX1_rests_2 2 rfl rfl)
theorem dX1_rests_52 : decode cX1_rests 52 = .ok (.iconst 4, 1) := dk_7 (dk_at dksX1_rests_2 4 rfl rfl)
theorem dX1_rests_53 : decode cX1_rests 53 = .ok (.if_icmp .ge 58, 3) := dk_162 0 58 (dk_at dksX1_rests_2 5 rfl rfl)
theorem dX1_rests_56 : decode cX1_rests 56 = .ok (.iload 6, 2) := dk_21 6 (dk_at dksX1_rests_2 8 rfl rfl)
theorem dX1_rests_58 : decode cX1_rests 58 = .ok (.iconst 1, 1) := dk_4 (dk_at dksX1_rests_2 10 rfl rfl)
theorem dX1_rests_59 : decode cX1_rests 59 = .ok (.if_icmp .le 7, 3) := dk_164 0 7 (dk_at dksX1_rests_2 11 rfl rfl)
theorem dX1_rests_62 : decode cX1_rests 62 = .ok (.iconst 1, 1) := dk_4 (dk_at dksX1_rests_2 14 rfl rfl)
theorem dX1_rests_63 : decode cX1_rests 63 = .ok (.goto 4, 3) := dk_167 0 4 (dk_at dksX1_rests_2 15 rfl rfl)
theorem dX1_rests_66 : decode cX1_rests 66 = .ok (.iconst 0, 1) := dk_3 (dk_at dksX1_rests_2 18 rfl rfl)
theorem dX1_rests_67 : decode cX1_rests 67 = .ok (.iload 6, 2) := dk_21 6 (dk_at dksX1_rests_2 19 rfl rfl)
theorem dX1_rests_69 : decode cX1_rests 69 = .ok (.iconst 2, 1) := dk_5 (dk_at dksX1_rests_2 21 rfl rfl)
theorem dX1_rests_70 : decode cX1_rests 70 = .ok (.irem, 1) := dk_112 (dk_at dksX1_rests_2 22 rfl rfl)
theorem dX1_rests_71 : decode cX1_rests 71 = .ok (.iconst 1, 1) := dk_4 (dk_at dksX1_rests_2 23 rfl rfl)
theorem dX1_rests_72 : decode cX1_rests 72 = .ok (.if_icmp .ne 7, 3) := dk_160 0 7 (dk_at dksX1_rests_3 0 rfl rfl)
theorem dX1_rests_75 : decode cX1_rests 75 = .ok (.iconst 1, 1) := dk_4 (dk_at dksX1_rests_3 3 rfl rfl)
theorem dX1_rests_76 : decode cX1_rests 76 = .ok (.goto 4, 3) := dk_167 0 4 (dk_at dksX1_rests_3 4 rfl rfl)
theorem dX1_rests_79 : decode cX1_rests 79 = .ok (.iconst 0, 1) := dk_3 (dk_at dksX1_rests_3 7 rfl rfl)
theorem dX1_rests_80 : decode cX1_rests 80 = .ok (.iload_n 1, 1) := dk_27 (dk_at dksX1_rests_3 8 rfl rfl)
theorem dX1_rests_81 : decode cX1_rests 81 = .ok (.iload_n 2, 1) := dk_28 (dk_at dksX1_rests_3 9 rfl rfl)
theorem dX1_rests_82 : decode cX1_rests 82 = .ok (.iload_n 3, 1) := dk_29 (dk_at dksX1_rests_3 10 rfl rfl)
theorem dX1_rests_83 : decode cX1_rests 83 = .ok (.invokestatic 314, 3) := dk_184 1 58 (dk_at dksX1_rests_3 11 rfl rfl)
theorem dX1_rests_86 : decode cX1_rests 86 = .ok (.ifCond .ne 6, 3) := dk_154 0 6 (dk_at dksX1_rests_3 14 rfl rfl)
theorem dX1_rests_89 : decode cX1_rests 89 = .ok (.goto 16, 3) := dk_167 0 16 (dk_at dksX1_rests_3 17 rfl rfl)
theorem dX1_rests_92 : decode cX1_rests 92 = .ok (.iload 5, 2) := dk_21 5 (dk_at dksX1_rests_3 20 rfl rfl)
theorem dX1_rests_94 : decode cX1_rests 94 = .ok (.iload 4, 2) := dk_21 4 (dk_at dksX1_rests_3 22 rfl rfl)
theorem dX1_rests_96 : decode cX1_rests 96 = .ok (.if_icmp .ne 6, 3) := dk_160 0 6 (dk_at dksX1_rests_4 0 rfl rfl)
theorem dX1_rests_99 : decode cX1_rests 99 = .ok (.iload 6, 2) := dk_21 6 (dk_at dksX1_rests_4 3 rfl rfl)
theorem dX1_rests_101 : decode cX1_rests 101 = .ok (.ireturn, 1) := dk_172 (dk_at dksX1_rests_4 5 rfl rfl)
theorem dX1_rests_102 : decode cX1_rests 102 = .ok (.iinc 5 1, 3) := dk_132 5 1 (dk_at dksX1_rests_4 6 rfl rfl)
theorem dX1_rests_105 : decode cX1_rests 105 = .ok (.iinc 6 1, 3) := dk_132 6 1 (dk_at dksX1_rests_4 9 rfl rfl)
theorem dX1_rests_108 : decode cX1_rests 108 = .ok (.goto (-58), 3) := dk_167 255 198 (dk_at dksX1_rests_4 12 rfl rfl)
theorem dX1_rests_111 : decode cX1_rests 111 = .ok (.iload 4, 2) := dk_21 4 (dk_at dksX1_rests_4 15 rfl rfl)
theorem dX1_rests_113 : decode cX1_rests 113 = .ok (.iconst (-1), 1) := dk_2 (dk_at dksX1_rests_4 17 rfl rfl)
theorem dX1_rests_114 : decode cX1_rests 114 = .ok (.if_icmp .ne 7, 3) := dk_160 0 7 (dk_at dksX1_rests_4 18 rfl rfl)
theorem dX1_rests_117 : decode cX1_rests 117 = .ok (.iconst 1, 1) := dk_4 (dk_at dksX1_rests_4 21 rfl rfl)
theorem dX1_rests_118 : decode cX1_rests 118 = .ok (.goto 4, 3) := dk_167 0 4 (dk_at dksX1_rests_5 0 rfl rfl)
theorem dX1_rests_121 : decode cX1_rests 121 = .ok (.iconst 0, 1) := dk_3 (dk_at dksX1_rests_5 3 rfl rfl)
theorem dX1_rests_122 : decode cX1_rests 122 = .ok (.invokestatic 310, 3) := dk_184 1 54 (dk_at dksX1_rests_5 4 rfl rfl)
theorem dX1_rests_125 : decode cX1_rests 125 = .ok (.iload 5, 2) := dk_21 5 (dk_at dksX1_rests_5 7 rfl rfl)
theorem dX1_rests_127 : decode cX1_rests 127 = .ok (.ireturn, 1) := dk_172 (dk_at dksX1_rests_5 9 rfl rfl)
def dkwX1_need_0 : List UInt8 := [26, 154, 0, 11, 187, 1, 51, 89, 183, 1, 53, 191, 177]
abbrev dktX1_need_0 : List UInt8 := dkwX1_need_0 ++ []
theorem dksX1_need_0 : cX1_need.data.toList.drop 0 = dktX1_need_0 := by decide +kernel
theorem dX1_need_0 : decode cX1_need 0 = .ok (.iload_n 0, 1) := dk_26 (dk_at dksX1_need_0 0 rfl rfl)
theorem dX1_need_1 : decode cX1_need 1 = .ok (.ifCond .ne 11, 3) := dk_154 0 11 (dk_at dksX1_need_0 1 rfl rfl)
theorem dX1_need_4 : decode cX1_need 4 = .ok (.new 307, 3) := dk_187 1 51 (dk_at dksX1_need_0 4 rfl rfl)
theorem dX1_need_7 : decode cX1_need 7 = .ok (.dup, 1) := dk_89 (dk_at dksX1_need_0 7 rfl rfl)
theorem dX1_need_8 : decode cX1_need 8 = .ok (.invokespecial 309, 3) := dk_183 1 53 (dk_at dksX1_need_0 8 rfl rfl)
theorem dX1_need_11 : decode cX1_need 11 = .ok (.athrow, 1) := dk_191 (dk_at dksX1_need_0 11 rfl rfl)
theorem dX1_need_12 : decode cX1_need 12 = .ok (.return_, 1) := dk_177 (dk_at dksX1_need_0 12 rfl rfl)
def dkwX1_isRest_2 : List UInt8 := [26, 28, 29, 21, 4, 184, 1, 47, 163, 0, 7, 4, 167, 0, 4, 3, 172]
abbrev dktX1_isRest_2 : List UInt8 := dkwX1_isRest_2 ++ []
def dkwX1_isRest_1 : List UInt8 := [184, 1, 47, 163, 0, 36, 27, 154, 0, 7, 4, 167, 0, 4, 3, 26, 28, 29, 21, 4, 184, 1, 47, 27]
abbrev dktX1_isRest_1 : List UInt8 := dkwX1_isRest_1 ++ dktX1_isRest_2
def dkwX1_isRest_0 : List UInt8 := [26, 154, 0, 7, 4, 167, 0, 4, 3, 27, 28, 29, 21, 4, 184, 1, 47, 26, 27, 28, 29, 21, 4]
abbrev dktX1_isRest_0 : List UInt8 := dkwX1_isRest_0 ++ dktX1_isRest_1
theorem dksX1_isRest_0 : cX1_isRest.data.toList.drop 0 = dktX1_isRest_0 := by decide +kernel
theorem dksX1_isRest_1 : cX1_isRest.data.toList.drop 23 = dktX1_isRest_1 := dk_seg dksX1_isRest_0 23 rfl rfl
theorem dksX1_isRest_2 : cX1_isRest.data.toList.drop 47 = dktX1_isRest_2 := dk_seg dksX1_isRest_1 24 rfl rfl
theorem dX1_isRest_0 : decode cX1_isRest 0 = .ok (.iload_n 0, 1) := dk_26 (dk_at dksX1_isRest_0 0 rfl rfl)
theorem dX1_isRest_1 : decode cX1_isRest 1 = .ok (.ifCond .ne 7, 3) := dk_154 0 7 (dk_at dksX1_isRest_0 1 rfl rfl)
theorem dX1_isRest_4 : decode cX1_isRest 4 = .ok (.iconst 1, 1) := dk_4 (dk_at dksX1_isRest_0 4 rfl rfl)
theorem dX1_isRest_5 : decode cX1_isRest 5 = .ok (.goto 4, 3) := dk_167 0 4 (dk_at dksX1_isRest_0 5 rfl rfl)
theorem dX1_isRest_8 : decode cX1_isRest 8 = .ok (.iconst 0, 1) := dk_3 (dk_at dksX1_isRest_0 8 rfl rfl)
theorem dX1_isRest_9 : decode cX1_isRest 9 = .ok (.iload_n 1, 1) := dk_27 (dk_at dksX1_isRest_0 9 rfl rfl)
theorem dX1_isRest_10 : decode cX1_isRest 10 = .ok (.iload_n 2, 1) := dk_28 (dk_at dksX1_isRest_0 10 rfl rfl)
theorem dX1_isRest_11 : decode cX1_isRest 11 = .ok (.iload_n 3, 1) := dk_29 (dk_at dksX1_isRest_0 11 rfl rfl)
theorem dX1_isRest_12 : decode cX1_isRest 12 = .ok (.iload 4, 2) := dk_21 4 (dk_at dksX1_isRest_0 12 rfl rfl)
theorem dX1_isRest_14 : decode cX1_isRest 14 = .ok (.invokestatic 303, 3) := dk_184 1 47 (dk_at dksX1_isRest_0 14 rfl rfl)
theorem dX1_isRest_17 : decode cX1_isRest 17 = .ok (.iload_n 0, 1) := dk_26 (dk_at dksX1_isRest_0 17 rfl rfl)
theorem dX1_isRest_18 : decode cX1_isRest 18 = .ok (.iload_n 1, 1) := dk_27 (dk_at dksX1_isRest_0 18 rfl rfl)
theorem dX1_isRest_19 : decode cX1_isRest 19 = .ok (.iload_n 2, 1) := dk_28 (dk_at dksX1_isRest_0 19 rfl rfl)
theorem dX1_isRest_20 : decode cX1_isRest 20 = .ok (.iload_n 3, 1) := dk_29 (dk_at dksX1_isRest_0 20 rfl rfl)
theorem dX1_isRest_21 : decode cX1_isRest 21 = .ok (.iload 4, 2) := dk_21 4 (dk_at dksX1_isRest_0 21 rfl rfl)
theorem dX1_isRest_23 : decode cX1_isRest 23 = .ok (.invokestatic 303, 3) := dk_184 1 47 (dk_at dksX1_isRest_1 0 rfl rfl)
theorem dX1_isRest_26 : decode cX1_isRest 26 = .ok (.if_icmp .gt 36, 3) := dk_163 0 36 (dk_at dksX1_isRest_1 3 rfl rfl)
theorem dX1_isRest_29 : decode cX1_isRest 29 = .ok (.iload_n 1, 1) := dk_27 (dk_at dksX1_isRest_1 6 rfl rfl)
theorem dX1_isRest_30 : decode cX1_isRest 30 = .ok (.ifCond .ne 7, 3) := dk_154 0 7 (dk_at dksX1_isRest_1 7 rfl rfl)
theorem dX1_isRest_33 : decode cX1_isRest 33 = .ok (.iconst 1, 1) := dk_4 (dk_at dksX1_isRest_1 10 rfl rfl)
theorem dX1_isRest_34 : decode cX1_isRest 34 = .ok (.goto 4, 3) := dk_167 0 4 (dk_at dksX1_isRest_1 11 rfl rfl)
theorem dX1_isRest_37 : decode cX1_isRest 37 = .ok (.iconst 0, 1) := dk_3 (dk_at dksX1_isRest_1 14 rfl rfl)
theorem dX1_isRest_38 : decode cX1_isRest 38 = .ok (.iload_n 0, 1) := dk_26 (dk_at dksX1_isRest_1 15 rfl rfl)
theorem dX1_isRest_39 : decode cX1_isRest 39 = .ok (.iload_n 2, 1) := dk_28 (dk_at dksX1_isRest_1 16 rfl rfl)
theorem dX1_isRest_40 : decode cX1_isRest 40 = .ok (.iload_n 3, 1) := dk_29 (dk_at dksX1_isRest_1 17 rfl rfl)
theorem dX1_isRest_41 : decode cX1_isRest 41 = .ok (.iload 4, 2) := dk_21 4 (dk_at dksX1_isRest_1 18 rfl rfl)
theorem dX1_isRest_43 : decode cX1_isRest 43 = .ok (.invokestatic 303, 3) := dk_184 1 47 (dk_at dksX1_isRest_1 20 rfl rfl)
theorem dX1_isRest_46 : decode cX1_isRest 46 = .ok (.iload_n 1, 1) := dk_27 (dk_at dksX1_isRest_1 23 rfl rfl)
theorem dX1_isRest_47 : decode cX1_isRest 47 = .ok (.iload_n 0, 1) := dk_26 (dk_at dksX1_isRest_2 0 rfl rfl)
theorem dX1_isRest_48 : decode cX1_isRest 48 = .ok (.iload_n 2, 1) := dk_28 (dk_at dksX1_isRest_2 1 rfl rfl)
theorem dX1_isRest_49 : decode cX1_isRest 49 = .ok (.iload_n 3, 1) := dk_29 (dk_at dksX1_isRest_2 2 rfl rfl)
theorem dX1_isRest_50 : decode cX1_isRest 50 = .ok (.iload 4, 2) := dk_21 4 (dk_at dksX1_isRest_2 3 rfl rfl)
theorem dX1_isRest_52 : decode cX1_isRest 52 = .ok (.invokestatic 303, 3) := dk_184 1 47 (dk_at dksX1_isRest_2 5 rfl rfl)
theorem dX1_isRest_55 : decode cX1_isRest 55 = .ok (.if_icmp .gt 7, 3) := dk_163 0 7 (dk_at dksX1_isRest_2 8 rfl rfl)
theorem dX1_isRest_58 : decode cX1_isRest 58 = .ok (.iconst 1, 1) := dk_4 (dk_at dksX1_isRest_2 11 rfl rfl)
theorem dX1_isRest_59 : decode cX1_isRest 59 = .ok (.goto 4, 3) := dk_167 0 4 (dk_at dksX1_isRest_2 12 rfl rfl)
theorem dX1_isRest_62 : decode cX1_isRest 62 = .ok (.iconst 0, 1) := dk_3 (dk_at dksX1_isRest_2 15 rfl rfl)
theorem dX1_isRest_63 : decode cX1_isRest 63 = .ok (.ireturn, 1) := dk_172 (dk_at dksX1_isRest_2 16 rfl rfl)
def dkwX1_gets_1 : List UInt8 := [3, 172]
abbrev dktX1_gets_1 : List UInt8 := dkwX1_gets_1 ++ []
def dkwX1_gets_0 : List UInt8 := [26, 153, 0, 14, 27, 153, 0, 8, 28, 116, 167, 0, 4, 29, 172, 27, 153, 0, 8, 21, 4, 167, 0, 4]
abbrev dktX1_gets_0 : List UInt8 := dkwX1_gets_0 ++ dktX1_gets_1
theorem dksX1_gets_0 : cX1_gets.data.toList.drop 0 = dktX1_gets_0 := by decide +kernel
theorem dksX1_gets_1 : cX1_gets.data.toList.drop 24 = dktX1_gets_1 := dk_seg dksX1_gets_0 24 rfl rfl
theorem dX1_gets_0 : decode cX1_gets 0 = .ok (.iload_n 0, 1) := dk_26 (dk_at dksX1_gets_0 0 rfl rfl)
theorem dX1_gets_1 : decode cX1_gets 1 = .ok (.ifCond .eq 14, 3) := dk_153 0 14 (dk_at dksX1_gets_0 1 rfl rfl)
theorem dX1_gets_4 : decode cX1_gets 4 = .ok (.iload_n 1, 1) := dk_27 (dk_at dksX1_gets_0 4 rfl rfl)
theorem dX1_gets_5 : decode cX1_gets 5 = .ok (.ifCond .eq 8, 3) := dk_153 0 8 (dk_at dksX1_gets_0 5 rfl rfl)
theorem dX1_gets_8 : decode cX1_gets 8 = .ok (.iload_n 2, 1) := dk_28 (dk_at dksX1_gets_0 8 rfl rfl)
theorem dX1_gets_9 : decode cX1_gets 9 = .ok (.ineg, 1) := dk_116 (dk_at dksX1_gets_0 9 rfl rfl)
theorem dX1_gets_10 : decode cX1_gets 10 = .ok (.goto 4, 3) := dk_167 0 4 (dk_at dksX1_gets_0 10 rfl rfl)
theorem dX1_gets_13 : decode cX1_gets 13 = .ok (.iload_n 3, 1) := dk_29 (dk_at dksX1_gets_0 13 rfl rfl)
theorem dX1_gets_14 : decode cX1_gets 14 = .ok (.ireturn, 1) := dk_172 (dk_at dksX1_gets_0 14 rfl rfl)
theorem dX1_gets_15 : decode cX1_gets 15 = .ok (.iload_n 1, 1) := dk_27 (dk_at dksX1_gets_0 15 rfl rfl)
theorem dX1_gets_16 : decode cX1_gets 16 = .ok (.ifCond .eq 8, 3) := dk_153 0 8 (dk_at dksX1_gets_0 16 rfl rfl)
theorem dX1_gets_19 : decode cX1_gets 19 = .ok (.iload 4, 2) := dk_21 4 (dk_at dksX1_gets_0 19 rfl rfl)
theorem dX1_gets_21 : decode cX1_gets 21 = .ok (.goto 4, 3) := dk_167 0 4 (dk_at dksX1_gets_0 21 rfl rfl)
theorem dX1_gets_24 : decode cX1_gets 24 = .ok (.iconst 0, 1) := dk_3 (dk_at dksX1_gets_1 0 rfl rfl)
theorem dX1_gets_25 : decode cX1_gets 25 = .ok (.ireturn, 1) := dk_172 (dk_at dksX1_gets_1 1 rfl rfl)
def dkwX2_init_10 : List UInt8 := [17, 3, 233, 188, 11, 181, 0, 88, 42, 17, 3, 233, 188, 10, 181, 0, 92, 177]
abbrev dktX2_init_10 : List UInt8 := dkwX2_init_10 ++ []
def dkwX2_init_9 : List UInt8 := [181, 0, 78, 42, 17, 3, 232, 188, 10, 181, 0, 81, 42, 17, 3, 233, 188, 10, 181, 0, 85, 42]
abbrev dktX2_init_9 : List UInt8 := dkwX2_init_9 ++ dktX2_init_10
def dkwX2_init_8 : List UInt8 := [181, 0, 75, 42, 6, 189, 0, 9, 89, 3, 18, 60, 83, 89, 4, 18, 62, 83, 89, 5, 18, 64, 83]
abbrev dktX2_init_8 : List UInt8 := dkwX2_init_8 ++ dktX2_init_9
def dkwX2_init_7 : List UInt8 := [181, 0, 72, 42, 6, 189, 0, 9, 89, 3, 18, 38, 83, 89, 4, 18, 56, 83, 89, 5, 18, 58, 83]
abbrev dktX2_init_7 : List UInt8 := dkwX2_init_7 ++ dktX2_init_8
def dkwX2_init_6 : List UInt8 := [16, 13, 18, 64, 83, 89, 16, 14, 18, 66, 83, 89, 16, 15, 18, 68, 83, 89, 16, 16, 18, 70, 83]
abbrev dktX2_init_6 : List UInt8 := dkwX2_init_6 ++ dktX2_init_7
def dkwX2_init_5 : List UInt8 := [16, 9, 18, 56, 83, 89, 16, 10, 18, 58, 83, 89, 16, 11, 18, 60, 83, 89, 16, 12, 18, 62, 83, 89]
abbrev dktX2_init_5 : List UInt8 := dkwX2_init_5 ++ dktX2_init_6
def dkwX2_init_4 : List UInt8 := [89, 8, 18, 48, 83, 89, 16, 6, 18, 50, 83, 89, 16, 7, 18, 52, 83, 89, 16, 8, 18, 54, 83, 89]
abbrev dktX2_init_4 : List UInt8 := dkwX2_init_4 ++ dktX2_init_5
def dkwX2_init_3 : List UInt8 := [3, 18, 38, 83, 89, 4, 18, 40, 83, 89, 5, 18, 42, 83, 89, 6, 18, 44, 83, 89, 7, 18, 46, 83]
abbrev dktX2_init_3 : List UInt8 := dkwX2_init_3 ++ dktX2_init_4
def dkwX2_init_2 : List UInt8 := [4, 18, 29, 83, 89, 5, 18, 31, 83, 89, 6, 18, 33, 83, 181, 0, 35, 42, 16, 17, 189, 0, 9, 89]
abbrev dktX2_init_2 : List UInt8 := dkwX2_init_2 ++ dktX2_init_3
def dkwX2_init_1 : List UInt8 := [89, 6, 18, 17, 83, 89, 7, 18, 19, 83, 181, 0, 21, 42, 7, 189, 0, 9, 89, 3, 18, 27, 83, 89]
abbrev dktX2_init_1 : List UInt8 := dkwX2_init_1 ++ dktX2_init_2
def dkwX2_init_0 : List UInt8 := [42, 183, 0, 3, 42, 8, 189, 0, 9, 89, 3, 18, 11, 83, 89, 4, 18, 13, 83, 89, 5, 18, 15, 83]
abbrev dktX2_init_0 : List UInt8 := dkwX2_init_0 ++ dktX2_init_1
theorem dksX2_init_0 : cX2_init.data.toList.drop 0 = dktX2_init_0 := by decide +kernel
theorem dksX2_init_1 : cX2_init.data.toList.drop 24 = dktX2_init_1 := dk_seg dksX2_init_0 24 rfl rfl
theorem dksX2_init_2 : cX2_init.data.toList.drop 48 = dktX2_init_2 := dk_seg dksX2_init_1 24 rfl rfl
theorem dksX2_init_3 : cX2_init.data.toList.drop 72 = dktX2_init_3 := dk_seg dksX2_init_2 24 rfl rfl
theorem dksX2_init_4 : cX2_init.data.toList.drop 96 = dktX2_init_4 := dk_seg dksX2_init_3 24 rfl rfl
theorem dksX2_init_5 : cX2_init.data.toList.drop 120 = dktX2_init_5 := dk_seg dksX2_init_4 24 rfl rfl
theorem dksX2_init_6 : cX2_init.data.toList.drop 144 = dktX2_init_6 := dk_seg dksX2_init_5 24 rfl rfl
theorem dksX2_init_7 : cX2_init.data.toList.drop 167 = dktX2_init_7 := dk_seg dksX2_init_6 23 rfl rfl
theorem dksX2_init_8 : cX2_init.data.toList.drop 190 = dktX2_init_8 := dk_seg dksX2_init_7 23 rfl rfl
theorem dksX2_init_9 : cX2_init.data.toList.drop 213 = dktX2_init_9 := dk_seg dksX2_init_8 23 rfl rfl
theorem dksX2_init_10 : cX2_init.data.toList.drop 235 = dktX2_init_10 := dk_seg dksX2_init_9 22 rfl rfl
theorem dX2_init_0 : decode cX2_init 0 = .ok (.aload_n 0, 1) := dk_42 (dk_at dksX2_init_0 0 rfl rfl)
theorem dX2_init_1 : decode cX2_init 1 = .ok (.invokespecial 3, 3) := dk_183 0 3 (dk_at dksX2_init_0 1 rfl rfl)
theorem dX2_init_4 : decode cX2_init 4 = .ok (.aload_n 0, 1) := dk_42 (dk_at dksX2_init_0 4 rfl rfl)
theorem dX2_init_5 : decode cX2_init 5 = .ok (.iconst 5, 1) := dk_8 (dk_at dksX2_init_0 5 rfl rfl)
theorem dX2_init_6 : decode cX2_init 6 = .ok (.anewarray 9, 3) := dk_189 0 9 (dk_at dksX2_init_0 6 rfl rfl)
theorem dX2_init_9 : decode cX2_init 9 = .ok (.dup, 1) := dk_89 (dk_at dksX2_init_0 9 rfl rfl)
theorem dX2_init_10 : decode cX2_init 10 = .ok (.iconst 0, 1) := dk_3 (dk_at dksX2_init_0 10 rfl rfl)
theorem dX2_init_11 : decode cX2_init 11 = .ok (.ldc 11, 2) := dk_18 11 (dk_at dksX2_init_0 11 rfl rfl)
theorem dX2_init_13 : decode cX2_init 13 = .ok (.aastore, 1) := dk_83 (dk_at dksX2_init_0 13 rfl rfl)
theorem dX2_init_14 : decode cX2_init 14 = .ok (.dup, 1) := dk_89 (dk_at dksX2_init_0 14 rfl rfl)
theorem dX2_init_15 : decode cX2_init 15 = .ok (.iconst 1, 1) := dk_4 (dk_at dksX2_init_0 15 rfl rfl)
theorem dX2_init_16 : decode cX2_init 16 = .ok (.ldc 13, 2) := dk_18 13 (dk_at dksX2_init_0 16 rfl rfl)
theorem dX2_init_18 : decode cX2_init 18 = .ok (.aastore, 1) := dk_83 (dk_at dksX2_init_0 18 rfl rfl)
theorem dX2_init_19 : decode cX2_init 19 = .ok (.dup, 1) := dk_89 (dk_at dksX2_init_0 19 rfl rfl)
theorem dX2_init_20 : decode cX2_init 20 = .ok (.iconst 2, 1) := dk_5 (dk_at dksX2_init_0 20 rfl rfl)
theorem dX2_init_21 : decode cX2_init 21 = .ok (.ldc 15, 2) := dk_18 15 (dk_at dksX2_init_0 21 rfl rfl)
theorem dX2_init_23 : decode cX2_init 23 = .ok (.aastore, 1) := dk_83 (dk_at dksX2_init_0 23 rfl rfl)
theorem dX2_init_24 : decode cX2_init 24 = .ok (.dup, 1) := dk_89 (dk_at dksX2_init_1 0 rfl rfl)
theorem dX2_init_25 : decode cX2_init 25 = .ok (.iconst 3, 1) := dk_6 (dk_at dksX2_init_1 1 rfl rfl)
theorem dX2_init_26 : decode cX2_init 26 = .ok (.ldc 17, 2) := dk_18 17 (dk_at dksX2_init_1 2 rfl rfl)
theorem dX2_init_28 : decode cX2_init 28 = .ok (.aastore, 1) := dk_83 (dk_at dksX2_init_1 4 rfl rfl)
theorem dX2_init_29 : decode cX2_init 29 = .ok (.dup, 1) := dk_89 (dk_at dksX2_init_1 5 rfl rfl)
theorem dX2_init_30 : decode cX2_init 30 = .ok (.iconst 4, 1) := dk_7 (dk_at dksX2_init_1 6 rfl rfl)
theorem dX2_init_31 : decode cX2_init 31 = .ok (.ldc 19, 2) := dk_18 19 (dk_at dksX2_init_1 7 rfl rfl)
theorem dX2_init_33 : decode cX2_init 33 = .ok (.aastore, 1) := dk_83 (dk_at dksX2_init_1 9 rfl rfl)
theorem dX2_init_34 : decode cX2_init 34 = .ok (.putfield 21, 3) := dk_181 0 21 (dk_at dksX2_init_1 10 rfl rfl)
theorem dX2_init_37 : decode cX2_init 37 = .ok (.aload_n 0, 1) := dk_42 (dk_at dksX2_init_1 13 rfl rfl)
theorem dX2_init_38 : decode cX2_init 38 = .ok (.iconst 4, 1) := dk_7 (dk_at dksX2_init_1 14 rfl rfl)
theorem dX2_init_39 : decode cX2_init 39 = .ok (.anewarray 9, 3) := dk_189 0 9 (dk_at dksX2_init_1 15 rfl rfl)
theorem dX2_init_42 : decode cX2_init 42 = .ok (.dup, 1) := dk_89 (dk_at dksX2_init_1 18 rfl rfl)
theorem dX2_init_43 : decode cX2_init 43 = .ok (.iconst 0, 1) := dk_3 (dk_at dksX2_init_1 19 rfl rfl)
theorem dX2_init_44 : decode cX2_init 44 = .ok (.ldc 27, 2) := dk_18 27 (dk_at dksX2_init_1 20 rfl rfl)
theorem dX2_init_46 : decode cX2_init 46 = .ok (.aastore, 1) := dk_83 (dk_at dksX2_init_1 22 rfl rfl)
theorem dX2_init_47 : decode cX2_init 47 = .ok (.dup, 1) := dk_89 (dk_at dksX2_init_1 23 rfl rfl)
theorem dX2_init_48 : decode cX2_init 48 = .ok (.iconst 1, 1) := dk_4 (dk_at dksX2_init_2 0 rfl rfl)
theorem dX2_init_49 : decode cX2_init 49 = .ok (.ldc 29, 2) := dk_18 29 (dk_at dksX2_init_2 1 rfl rfl)
theorem dX2_init_51 : decode cX2_init 51 = .ok (.aastore, 1) := dk_83 (dk_at dksX2_init_2 3 rfl rfl)
theorem dX2_init_52 : decode cX2_init 52 = .ok (.dup, 1) := dk_89 (dk_at dksX2_init_2 4 rfl rfl)
theorem dX2_init_53 : decode cX2_init 53 = .ok (.iconst 2, 1) := dk_5 (dk_at dksX2_init_2 5 rfl rfl)
theorem dX2_init_54 : decode cX2_init 54 = .ok (.ldc 31, 2) := dk_18 31 (dk_at dksX2_init_2 6 rfl rfl)
theorem dX2_init_56 : decode cX2_init 56 = .ok (.aastore, 1) := dk_83 (dk_at dksX2_init_2 8 rfl rfl)
theorem dX2_init_57 : decode cX2_init 57 = .ok (.dup, 1) := dk_89 (dk_at dksX2_init_2 9 rfl rfl)
theorem dX2_init_58 : decode cX2_init 58 = .ok (.iconst 3, 1) := dk_6 (dk_at dksX2_init_2 10 rfl rfl)
theorem dX2_init_59 : decode cX2_init 59 = .ok (.ldc 33, 2) := dk_18 33 (dk_at dksX2_init_2 11 rfl rfl)
theorem dX2_init_61 : decode cX2_init 61 = .ok (.aastore, 1) := dk_83 (dk_at dksX2_init_2 13 rfl rfl)
theorem dX2_init_62 : decode cX2_init 62 = .ok (.putfield 35, 3) := dk_181 0 35 (dk_at dksX2_init_2 14 rfl rfl)
theorem dX2_init_65 : decode cX2_init 65 = .ok (.aload_n 0, 1) := dk_42 (dk_at dksX2_init_2 17 rfl rfl)
theorem dX2_init_66 : decode cX2_init 66 = .ok (.bipush 17, 2) := dk_16 17 (dk_at dksX2_init_2 18 rfl rfl)
theorem dX2_init_68 : decode cX2_init 68 = .ok (.anewarray 9, 3) := dk_189 0 9 (dk_at dksX2_init_2 20 rfl rfl)
theorem dX2_init_71 : decode cX2_init 71 = .ok (.dup, 1) := dk_89 (dk_at dksX2_init_2 23 rfl rfl)
theorem dX2_init_72 : decode cX2_init 72 = .ok (.iconst 0, 1) := dk_3 (dk_at dksX2_init_3 0 rfl rfl)
theorem dX2_init_73 : decode cX2_init 73 = .ok (.ldc 38, 2) := dk_18 38 (dk_at dksX2_init_3 1 rfl rfl)
theorem dX2_init_75 : decode cX2_init 75 = .ok (.aastore, 1) := dk_83 (dk_at dksX2_init_3 3 rfl rfl)
theorem dX2_init_76 : decode cX2_init 76 = .ok (.dup, 1) := dk_89 (dk_at dksX2_init_3 4 rfl rfl)
theorem dX2_init_77 : decode cX2_init 77 = .ok (.iconst 1, 1) := dk_4 (dk_at dksX2_init_3 5 rfl rfl)
theorem dX2_init_78 : decode cX2_init 78 = .ok (.ldc 40, 2) := dk_18 40 (dk_at dksX2_init_3 6 rfl rfl)
theorem dX2_init_80 : decode cX2_init 80 = .ok (.aastore, 1) := dk_83 (dk_at dksX2_init_3 8 rfl rfl)
theorem dX2_init_81 : decode cX2_init 81 = .ok (.dup, 1) := dk_89 (dk_at dksX2_init_3 9 rfl rfl)
theorem dX2_init_82 : decode cX2_init 82 = .ok (.iconst 2, 1) := dk_5 (dk_at dksX2_init_3 10 rfl rfl)
theorem dX2_init_83 : decode cX2_init 83 = .ok (.ldc 42, 2) := dk_18 42 (dk_at dksX2_init_3 11 rfl rfl)
theorem dX2_init_85 : decode cX2_init 85 = .ok (.aastore, 1) := dk_83 (dk_at dksX2_init_3 13 rfl rfl)
theorem dX2_init_86 : decode cX2_init 86 = .ok (.dup, 1) := dk_89 (dk_at dksX2_init_3 14 rfl rfl)
theorem dX2_init_87 : decode cX2_init 87 = .ok (.iconst 3, 1) := dk_6 (dk_at dksX2_init_3 15 rfl rfl)
theorem dX2_init_88 : decode cX2_init 88 = .ok (.ldc 44, 2) := dk_18 44 (dk_at dksX2_init_3 16 rfl rfl)
theorem dX2_init_90 : decode cX2_init 90 = .ok (.aastore, 1) := dk_83 (dk_at dksX2_init_3 18 rfl rfl)
theorem dX2_init_91 : decode cX2_init 91 = .ok (.dup, 1) := dk_89 (dk_at dksX2_init_3 19 rfl rfl)
theorem dX2_init_92 : decode cX2_init 92 = .ok (.iconst 4, 1) := dk_7 (dk_at dksX2_init_3 20 rfl rfl)
theorem dX2_init_93 : decode cX2_init 93 = .ok (.ldc 46, 2) := dk_18 46 (dk_at dksX2_init_3 21 rfl rfl)
theorem dX2_init_95 : decode cX2_init 95 = .ok (.aastore, 1) := dk_83 (dk_at dksX2_init_3 23 rfl rfl)
theorem dX2_init_96 : decode cX2_init 96 = .ok (.dup, 1) := dk_89 (dk_at dksX2_init_4 0 rfl rfl)
theorem dX2_init_97 : decode cX2_init 97 = .ok (.iconst 5, 1) := dk_8 (dk_at dksX2_init_4 1 rfl rfl)
theorem dX2_init_98 : decode cX2_init 98 = .ok (.ldc 48, 2) := dk_18 48 (dk_at dksX2_init_4 2 rfl rfl)
theorem dX2_init_100 : decode cX2_init 100 = .ok (.aastore, 1) := dk_83 (dk_at dksX2_init_4 4 rfl rfl)
theorem dX2_init_101 : decode cX2_init 101 = .ok (.dup, 1) := dk_89 (dk_at dksX2_init_4 5 rfl rfl)
theorem dX2_init_102 : decode cX2_init 102 = .ok (.bipush 6, 2) := dk_16 6 (dk_at dksX2_init_4 6 rfl rfl)
theorem dX2_init_104 : decode cX2_init 104 = .ok (.ldc 50, 2) := dk_18 50 (dk_at dksX2_init_4 8 rfl rfl)
theorem dX2_init_106 : decode cX2_init 106 = .ok (.aastore, 1) := dk_83 (dk_at dksX2_init_4 10 rfl rfl)
theorem dX2_init_107 : decode cX2_init 107 = .ok (.dup, 1) := dk_89 (dk_at dksX2_init_4 11 rfl rfl)
theorem dX2_init_108 : decode cX2_init 108 = .ok (.bipush 7, 2) := dk_16 7 (dk_at dksX2_init_4 12 rfl rfl)
theorem dX2_init_110 : decode cX2_init 110 = .ok (.ldc 52, 2) := dk_18 52 (dk_at dksX2_init_4 14 rfl rfl)
theorem dX2_init_112 : decode cX2_init 112 = .ok (.aastore, 1) := dk_83 (dk_at dksX2_init_4 16 rfl rfl)
theorem dX2_init_113 : decode cX2_init 113 = .ok (.dup, 1) := dk_89 (dk_at dksX2_init_4 17 rfl rfl)
theorem dX2_init_114 : decode cX2_init 114 = .ok (.bipush 8, 2) := dk_16 8 (dk_at dksX2_init_4 18 rfl rfl)
theorem dX2_init_116 : decode cX2_init 116 = .ok (.ldc 54, 2) := dk_18 54 (dk_at dksX2_init_4 20 rfl rfl)
theorem dX2_init_118 : decode cX2_init 118 = .ok (.aastore, 1) := dk_83 (dk_at dksX2_init_4 22 rfl rfl)
theorem dX2_init_119 : decode cX2_init 119 = .ok (.dup, 1) := dk_89 (dk_at dksX2_init_4 23 rfl rfl)
theorem dX2_init_120 : decode cX2_init 120 = .ok (.bipush 9, 2) := dk_16 9 (dk_at dksX2_init_5 0 rfl rfl)
theorem dX2_init_122 : decode cX2_init 122 = .ok (.ldc 56, 2) := dk_18 56 (dk_at dksX2_init_5 2 rfl rfl)
theorem dX2_init_124 : decode cX2_init 124 = .ok (.aastore, 1) := dk_83 (dk_at dksX2_init_5 4 rfl rfl)
theorem dX2_init_125 : decode cX2_init 125 = .ok (.dup, 1) := dk_89 (dk_at dksX2_init_5 5 rfl rfl)
theorem dX2_init_126 : decode cX2_init 126 = .ok (.bipush 10, 2) := dk_16 10 (dk_at dksX2_init_5 6 rfl rfl)
theorem dX2_init_128 : decode cX2_init 128 = .ok (.ldc 58, 2) := dk_18 58 (dk_at dksX2_init_5 8 rfl rfl)
theorem dX2_init_130 : decode cX2_init 130 = .ok (.aastore, 1) := dk_83 (dk_at dksX2_init_5 10 rfl rfl)
theorem dX2_init_131 : decode cX2_init 131 = .ok (.dup, 1) := dk_89 (dk_at dksX2_init_5 11 rfl rfl)
theorem dX2_init_132 : decode cX2_init 132 = .ok (.bipush 11, 2) := dk_16 11 (dk_at dksX2_init_5 12 rfl rfl)
theorem dX2_init_134 : decode cX2_init 134 = .ok (.ldc 60, 2) := dk_18 60 (dk_at dksX2_init_5 14 rfl rfl)
theorem dX2_init_136 : decode cX2_init 136 = .ok (.aastore, 1) := dk_83 (dk_at dksX2_init_5 16 rfl rfl)
theorem dX2_init_137 : decode cX2_init 137 = .ok (.dup, 1) := dk_89 (dk_at dksX2_init_5 17 rfl rfl)
theorem dX2_init_138 : decode cX2_init 138 = .ok (.bipush 12, 2) := dk_16 12 (dk_at dksX2_init_5 18 rfl rfl)
theorem dX2_init_140 : decode cX2_init 140 = .ok (.ldc 62, 2) := dk_18 62 (dk_at dksX2_init_5 20 rfl rfl)
theorem dX2_init_142 : decode cX2_init 142 = .ok (.aastore, 1) := dk_83 (dk_at dksX2_init_5 22 rfl rfl)
theorem dX2_init_143 : decode cX2_init 143 = .ok (.dup, 1) := dk_89 (dk_at dksX2_init_5 23 rfl rfl)
theorem dX2_init_144 : decode cX2_init 144 = .ok (.bipush 13, 2) := dk_16 13 (dk_at dksX2_init_6 0 rfl rfl)
theorem dX2_init_146 : decode cX2_init 146 = .ok (.ldc 64, 2) := dk_18 64 (dk_at dksX2_init_6 2 rfl rfl)
theorem dX2_init_148 : decode cX2_init 148 = .ok (.aastore, 1) := dk_83 (dk_at dksX2_init_6 4 rfl rfl)
theorem dX2_init_149 : decode cX2_init 149 = .ok (.dup, 1) := dk_89 (dk_at dksX2_init_6 5 rfl rfl)
theorem dX2_init_150 : decode cX2_init 150 = .ok (.bipush 14, 2) := dk_16 14 (dk_at dksX2_init_6 6 rfl rfl)
theorem dX2_init_152 : decode cX2_init 152 = .ok (.ldc 66, 2) := dk_18 66 (dk_at dksX2_init_6 8 rfl rfl)
theorem dX2_init_154 : decode cX2_init 154 = .ok (.aastore, 1) := dk_83 (dk_at dksX2_init_6 10 rfl rfl)
theorem dX2_init_155 : decode cX2_init 155 = .ok (.dup, 1) := dk_89 (dk_at dksX2_init_6 11 rfl rfl)
theorem dX2_init_156 : decode cX2_init 156 = .ok (.bipush 15, 2) := dk_16 15 (dk_at dksX2_init_6 12 rfl rfl)
theorem dX2_init_158 : decode cX2_init 158 = .ok (.ldc 68, 2) := dk_18 68 (dk_at dksX2_init_6 14 rfl rfl)
theorem dX2_init_160 : decode cX2_init 160 = .ok (.aastore, 1) := dk_83 (dk_at dksX2_init_6 16 rfl rfl)
theorem dX2_init_161 : decode cX2_init 161 = .ok (.dup, 1) := dk_89 (dk_at dksX2_init_6 17 rfl rfl)
theorem dX2_init_162 : decode cX2_init 162 = .ok (.bipush 16, 2) := dk_16 16 (dk_at dksX2_init_6 18 rfl rfl)
theorem dX2_init_164 : decode cX2_init 164 = .ok (.ldc 70, 2) := dk_18 70 (dk_at dksX2_init_6 20 rfl rfl)
theorem dX2_init_166 : decode cX2_init 166 = .ok (.aastore, 1) := dk_83 (dk_at dksX2_init_6 22 rfl rfl)
theorem dX2_init_167 : decode cX2_init 167 = .ok (.putfield 72, 3) := dk_181 0 72 (dk_at dksX2_init_7 0 rfl rfl)
theorem dX2_init_170 : decode cX2_init 170 = .ok (.aload_n 0, 1) := dk_42 (dk_at dksX2_init_7 3 rfl rfl)
theorem dX2_init_171 : decode cX2_init 171 = .ok (.iconst 3, 1) := dk_6 (dk_at dksX2_init_7 4 rfl rfl)
theorem dX2_init_172 : decode cX2_init 172 = .ok (.anewarray 9, 3) := dk_189 0 9 (dk_at dksX2_init_7 5 rfl rfl)
theorem dX2_init_175 : decode cX2_init 175 = .ok (.dup, 1) := dk_89 (dk_at dksX2_init_7 8 rfl rfl)
theorem dX2_init_176 : decode cX2_init 176 = .ok (.iconst 0, 1) := dk_3 (dk_at dksX2_init_7 9 rfl rfl)
theorem dX2_init_177 : decode cX2_init 177 = .ok (.ldc 38, 2) := dk_18 38 (dk_at dksX2_init_7 10 rfl rfl)
theorem dX2_init_179 : decode cX2_init 179 = .ok (.aastore, 1) := dk_83 (dk_at dksX2_init_7 12 rfl rfl)
theorem dX2_init_180 : decode cX2_init 180 = .ok (.dup, 1) := dk_89 (dk_at dksX2_init_7 13 rfl rfl)
theorem dX2_init_181 : decode cX2_init 181 = .ok (.iconst 1, 1) := dk_4 (dk_at dksX2_init_7 14 rfl rfl)
theorem dX2_init_182 : decode cX2_init 182 = .ok (.ldc 56, 2) := dk_18 56 (dk_at dksX2_init_7 15 rfl rfl)
theorem dX2_init_184 : decode cX2_init 184 = .ok (.aastore, 1) := dk_83 (dk_at dksX2_init_7 17 rfl rfl)
theorem dX2_init_185 : decode cX2_init 185 = .ok (.dup, 1) := dk_89 (dk_at dksX2_init_7 18 rfl rfl)
theorem dX2_init_186 : decode cX2_init 186 = .ok (.iconst 2, 1) := dk_5 (dk_at dksX2_init_7 19 rfl rfl)
theorem dX2_init_187 : decode cX2_init 187 = .ok (.ldc 58, 2) := dk_18 58 (dk_at dksX2_init_7 20 rfl rfl)
theorem dX2_init_189 : decode cX2_init 189 = .ok (.aastore, 1) := dk_83 (dk_at dksX2_init_7 22 rfl rfl)
theorem dX2_init_190 : decode cX2_init 190 = .ok (.putfield 75, 3) := dk_181 0 75 (dk_at dksX2_init_8 0 rfl rfl)
theorem dX2_init_193 : decode cX2_init 193 = .ok (.aload_n 0, 1) := dk_42 (dk_at dksX2_init_8 3 rfl rfl)
theorem dX2_init_194 : decode cX2_init 194 = .ok (.iconst 3, 1) := dk_6 (dk_at dksX2_init_8 4 rfl rfl)
theorem dX2_init_195 : decode cX2_init 195 = .ok (.anewarray 9, 3) := dk_189 0 9 (dk_at dksX2_init_8 5 rfl rfl)
theorem dX2_init_198 : decode cX2_init 198 = .ok (.dup, 1) := dk_89 (dk_at dksX2_init_8 8 rfl rfl)
theorem dX2_init_199 : decode cX2_init 199 = .ok (.iconst 0, 1) := dk_3 (dk_at dksX2_init_8 9 rfl rfl)
theorem dX2_init_200 : decode cX2_init 200 = .ok (.ldc 60, 2) := dk_18 60 (dk_at dksX2_init_8 10 rfl rfl)
theorem dX2_init_202 : decode cX2_init 202 = .ok (.aastore, 1) := dk_83 (dk_at dksX2_init_8 12 rfl rfl)
theorem dX2_init_203 : decode cX2_init 203 = .ok (.dup, 1) := dk_89 (dk_at dksX2_init_8 13 rfl rfl)
theorem dX2_init_204 : decode cX2_init 204 = .ok (.iconst 1, 1) := dk_4 (dk_at dksX2_init_8 14 rfl rfl)
theorem dX2_init_205 : decode cX2_init 205 = .ok (.ldc 62, 2) := dk_18 62 (dk_at dksX2_init_8 15 rfl rfl)
theorem dX2_init_207 : decode cX2_init 207 = .ok (.aastore, 1) := dk_83 (dk_at dksX2_init_8 17 rfl rfl)
theorem dX2_init_208 : decode cX2_init 208 = .ok (.dup, 1) := dk_89 (dk_at dksX2_init_8 18 rfl rfl)
theorem dX2_init_209 : decode cX2_init 209 = .ok (.iconst 2, 1) := dk_5 (dk_at dksX2_init_8 19 rfl rfl)
theorem dX2_init_210 : decode cX2_init 210 = .ok (.ldc 64, 2) := dk_18 64 (dk_at dksX2_init_8 20 rfl rfl)
theorem dX2_init_212 : decode cX2_init 212 = .ok (.aastore, 1) := dk_83 (dk_at dksX2_init_8 22 rfl rfl)
theorem dX2_init_213 : decode cX2_init 213 = .ok (.putfield 78, 3) := dk_181 0 78 (dk_at dksX2_init_9 0 rfl rfl)
theorem dX2_init_216 : decode cX2_init 216 = .ok (.aload_n 0, 1) := dk_42 (dk_at dksX2_init_9 3 rfl rfl)
theorem dX2_init_217 : decode cX2_init 217 = .ok (.sipush 1000, 3) := dk_17 3 232 (dk_at dksX2_init_9 4 rfl rfl)
theorem dX2_init_220 : decode cX2_init 220 = .ok (.newarray .int, 2) := dk_188_10 (dk_at dksX2_init_9 7 rfl rfl)
theorem dX2_init_222 : decode cX2_init 222 = .ok (.putfield 81, 3) := dk_181 0 81 (dk_at dksX2_init_9 9 rfl rfl)
theorem dX2_init_225 : decode cX2_init 225 = .ok (.aload_n 0, 1) := dk_42 (dk_at dksX2_init_9 12 rfl rfl)
theorem dX2_init_226 : decode cX2_init 226 = .ok (.sipush 1001, 3) := dk_17 3 233 (dk_at dksX2_init_9 13 rfl rfl)
theorem dX2_init_229 : decode cX2_init 229 = .ok (.newarray .int, 2) := dk_188_10 (dk_at dksX2_init_9 16 rfl rfl)
theorem dX2_init_231 : decode cX2_init 231 = .ok (.putfield 85, 3) := dk_181 0 85 (dk_at dksX2_init_9 18 rfl rfl)
theorem dX2_init_234 : decode cX2_init 234 = .ok (.aload_n 0, 1) := dk_42 (dk_at dksX2_init_9 21 rfl rfl)
theorem dX2_init_235 : decode cX2_init 235 = .ok (.sipush 1001, 3) := dk_17 3 233 (dk_at dksX2_init_10 0 rfl rfl)
theorem dX2_init_238 : decode cX2_init 238 = .ok (.newarray .long, 2) := dk_188_11 (dk_at dksX2_init_10 3 rfl rfl)
theorem dX2_init_240 : decode cX2_init 240 = .ok (.putfield 88, 3) := dk_181 0 88 (dk_at dksX2_init_10 5 rfl rfl)
theorem dX2_init_243 : decode cX2_init 243 = .ok (.aload_n 0, 1) := dk_42 (dk_at dksX2_init_10 8 rfl rfl)
theorem dX2_init_244 : decode cX2_init 244 = .ok (.sipush 1001, 3) := dk_17 3 233 (dk_at dksX2_init_10 9 rfl rfl)
theorem dX2_init_247 : decode cX2_init 247 = .ok (.newarray .int, 2) := dk_188_10 (dk_at dksX2_init_10 12 rfl rfl)
theorem dX2_init_249 : decode cX2_init 249 = .ok (.putfield 92, 3) := dk_181 0 92 (dk_at dksX2_init_10 14 rfl rfl)
theorem dX2_init_252 : decode cX2_init 252 = .ok (.return_, 1) := dk_177 (dk_at dksX2_init_10 17 rfl rfl)
def dkwX2_feed_3 : List UInt8 := [167, 255, 189, 177]
abbrev dktX2_feed_3 : List UInt8 := dkwX2_feed_3 ++ []
def dkwX2_feed_2 : List UInt8 := [180, 0, 81, 42, 180, 0, 101, 21, 4, 79, 42, 89, 180, 0, 101, 4, 96, 181, 0, 101, 132, 3, 248]
abbrev dktX2_feed_2 : List UInt8 := dkwX2_feed_2 ++ dktX2_feed_3
def dkwX2_feed_1 : List UInt8 := [21, 4, 16, 32, 16, 126, 184, 0, 97, 153, 0, 34, 42, 180, 0, 101, 17, 3, 232, 162, 0, 24, 42]
abbrev dktX2_feed_1 : List UInt8 := dkwX2_feed_1 ++ dktX2_feed_2
def dkwX2_feed_0 : List UInt8 := [16, 56, 62, 29, 155, 0, 69, 31, 29, 125, 20, 0, 95, 127, 136, 54, 4, 21, 4, 16, 10, 159, 0, 15]
abbrev dktX2_feed_0 : List UInt8 := dkwX2_feed_0 ++ dktX2_feed_1
theorem dksX2_feed_0 : cX2_feed.data.toList.drop 0 = dktX2_feed_0 := by decide +kernel
theorem dksX2_feed_1 : cX2_feed.data.toList.drop 24 = dktX2_feed_1 := dk_seg dksX2_feed_0 24 rfl rfl
theorem dksX2_feed_2 : cX2_feed.data.toList.drop 47 = dktX2_feed_2 := dk_seg dksX2_feed_1 23 rfl rfl
theorem dksX2_feed_3 : cX2_feed.data.toList.drop 70 = dktX2_feed_3 := dk_seg dksX2_feed_2 23 rfl rfl
theorem dX2_feed_0 : decode cX2_feed 0 = .ok (.bipush 56, 2) := dk_16 56 (dk_at dksX2_feed_0 0 rfl rfl)
theorem dX2_feed_2 : decode cX2_feed 2 = .ok (.istore_n 3, 1) := dk_62 (dk_at dksX2_feed_0 2 rfl rfl)
theorem dX2_feed_3 : decode cX2_feed 3 = .ok (.iload_n 3, 1) := dk_29 (dk_at dksX2_feed_0 3 rfl rfl)
theorem dX2_feed_4 : decode cX2_feed 4 = .ok (.ifCond .lt 69, 3) := dk_155 0 69 (dk_at dksX2_feed_0 4 rfl rfl)
theorem dX2_feed_7 : decode cX2_feed 7 = .ok (.lload_n 1, 1) := dk_31 (dk_at dksX2_feed_0 7 rfl rfl)
theorem dX2_feed_8 : decode cX2_feed 8 = .ok (.iload_n 3, 1) := dk_29 (dk_at dksX2_feed_0 8 rfl rfl)
theorem dX2_feed_9 : decode cX2_feed 9 = .ok (.lushr, 1) := dk_125 (dk_at dksX2_feed_0 9 rfl rfl)
theorem dX2_feed_10 : decode cX2_feed 10 = .ok (.ldc2_w 95, 3) := dk_20 0 95 (dk_at dksX2_feed_0 10 rfl rfl)
theorem dX2_feed_13 : decode cX2_feed 13 = .ok (.land, 1) := dk_127 (dk_at dksX2_feed_0 13 rfl rfl)
theorem dX2_feed_14 : decode cX2_feed 14 = .ok (.l2i, 1) := dk_136 (dk_at dksX2_feed_0 14 rfl rfl)
theorem dX2_feed_15 : decode cX2_feed 15 = .ok (.istore 4, 2) := dk_54 4 (dk_at dksX2_feed_0 15 rfl rfl)
theorem dX2_feed_17 : decode cX2_feed 17 = .ok (.iload 4, 2) := dk_21 4 (dk_at dksX2_feed_0 17 rfl rfl)
theorem dX2_feed_19 : decode cX2_feed 19 = .ok (.bipush 10, 2) := dk_16 10 (dk_at dksX2_feed_0 19 rfl rfl)
theorem dX2_feed_21 : decode cX2_feed 21 = .ok (.if_icmp .eq 15, 3) := dk_159 0 15 (dk_at dksX2_feed_0 21 rfl rfl)
theorem dX2_feed_24 : decode cX2_feed 24 = .ok (.iload 4, 2) := dk_21 4 (dk_at dksX2_feed_1 0 rfl rfl)
theorem dX2_feed_26 : decode cX2_feed 26 = .ok (.bipush 32, 2) := dk_16 32 (dk_at dksX2_feed_1 2 rfl rfl)
theorem dX2_feed_28 : decode cX2_feed 28 = .ok (.bipush 126, 2) := dk_16 126 (dk_at dksX2_feed_1 4 rfl rfl)
theorem dX2_feed_30 : decode cX2_feed 30 = .ok (.invokestatic 97, 3) := dk_184 0 97 (dk_at dksX2_feed_1 6 rfl rfl)
theorem dX2_feed_33 : decode cX2_feed 33 = .ok (.ifCond .eq 34, 3) := dk_153 0 34 (dk_at dksX2_feed_1 9 rfl rfl)
theorem dX2_feed_36 : decode cX2_feed 36 = .ok (.aload_n 0, 1) := dk_42 (dk_at dksX2_feed_1 12 rfl rfl)
theorem dX2_feed_37 : decode cX2_feed 37 = .ok (.getfield 101, 3) := dk_180 0 101 (dk_at dksX2_feed_1 13 rfl rfl)
theorem dX2_feed_40 : decode cX2_feed 40 = .ok (.sipush 1000, 3) := dk_17 3 232 (dk_at dksX2_feed_1 16 rfl rfl)
theorem dX2_feed_43 : decode cX2_feed 43 = .ok (.if_icmp .ge 24, 3) := dk_162 0 24 (dk_at dksX2_feed_1 19 rfl rfl)
theorem dX2_feed_46 : decode cX2_feed 46 = .ok (.aload_n 0, 1) := dk_42 (dk_at dksX2_feed_1 22 rfl rfl)
theorem dX2_feed_47 : decode cX2_feed 47 = .ok (.getfield 81, 3) := dk_180 0 81 (dk_at dksX2_feed_2 0 rfl rfl)
theorem dX2_feed_50 : decode cX2_feed 50 = .ok (.aload_n 0, 1) := dk_42 (dk_at dksX2_feed_2 3 rfl rfl)
theorem dX2_feed_51 : decode cX2_feed 51 = .ok (.getfield 101, 3) := dk_180 0 101 (dk_at dksX2_feed_2 4 rfl rfl)
theorem dX2_feed_54 : decode cX2_feed 54 = .ok (.iload 4, 2) := dk_21 4 (dk_at dksX2_feed_2 7 rfl rfl)
theorem dX2_feed_56 : decode cX2_feed 56 = .ok (.iastore, 1) := dk_79 (dk_at dksX2_feed_2 9 rfl rfl)
theorem dX2_feed_57 : decode cX2_feed 57 = .ok (.aload_n 0, 1) := dk_42 (dk_at dksX2_feed_2 10 rfl rfl)
theorem dX2_feed_58 : decode cX2_feed 58 = .ok (.dup, 1) := dk_89 (dk_at dksX2_feed_2 11 rfl rfl)
theorem dX2_feed_59 : decode cX2_feed 59 = .ok (.getfield 101, 3) := dk_180 0 101 (dk_at dksX2_feed_2 12 rfl rfl)
theorem dX2_feed_62 : decode cX2_feed 62 = .ok (.iconst 1, 1) := dk_4 (dk_at dksX2_feed_2 15 rfl rfl)
theorem dX2_feed_63 : decode cX2_feed 63 = .ok (.iadd, 1) := dk_96 (dk_at dksX2_feed_2 16 rfl rfl)
theorem dX2_feed_64 : decode cX2_feed 64 = .ok (.putfield 101, 3) := dk_181 0 101 (dk_at dksX2_feed_2 17 rfl rfl)
theorem dX2_feed_67 : decode cX2_feed 67 = .ok (.iinc 3 (-8), 3) := dk_132 3 248 (dk_at dksX2_feed_2 20 rfl rfl)
theorem dX2_feed_70 : decode cX2_feed 70 = .ok (.goto (-67), 3) := dk_167 255 189 (dk_at dksX2_feed_3 0 rfl rfl)
theorem dX2_feed_73 : decode cX2_feed 73 = .ok (.return_, 1) := dk_177 (dk_at dksX2_feed_3 3 rfl rfl)
def dkwX2_camp_4 : List UInt8 := [180, 0, 169, 176]
abbrev dktX2_camp_4 : List UInt8 := dkwX2_camp_4 ++ []
def dkwX2_camp_3 : List UInt8 := [153, 0, 10, 42, 182, 0, 180, 167, 0, 7, 42, 182, 0, 182, 42, 16, 59, 182, 0, 185, 167, 255, 186, 42]
abbrev dktX2_camp_3 : List UInt8 := dkwX2_camp_3 ++ dktX2_camp_4
def dkwX2_camp_2 : List UInt8 := [42, 18, 44, 182, 0, 145, 153, 0, 10, 42, 182, 0, 178, 167, 0, 23, 42, 18, 54, 182, 0, 145]
abbrev dktX2_camp_2 : List UInt8 := dkwX2_camp_2 ++ dktX2_camp_3
def dkwX2_camp_1 : List UInt8 := [42, 180, 0, 134, 46, 153, 0, 64, 42, 18, 42, 182, 0, 145, 153, 0, 10, 42, 182, 0, 176, 167, 0, 39]
abbrev dktX2_camp_1 : List UInt8 := dkwX2_camp_1 ++ dktX2_camp_2
def dkwX2_camp_0 : List UInt8 := [42, 182, 0, 163, 42, 187, 0, 166, 89, 183, 0, 168, 181, 0, 169, 42, 3, 181, 0, 173, 42, 180, 0, 85]
abbrev dktX2_camp_0 : List UInt8 := dkwX2_camp_0 ++ dktX2_camp_1
theorem dksX2_camp_0 : cX2_camp.data.toList.drop 0 = dktX2_camp_0 := by decide +kernel
theorem dksX2_camp_1 : cX2_camp.data.toList.drop 24 = dktX2_camp_1 := dk_seg dksX2_camp_0 24 rfl rfl
theorem dksX2_camp_2 : cX2_camp.data.toList.drop 48 = dktX2_camp_2 := dk_seg dksX2_camp_1 24 rfl rfl
theorem dksX2_camp_3 : cX2_camp.data.toList.drop 70 = dktX2_camp_3 := dk_seg dksX2_camp_2 22 rfl rfl
theorem dksX2_camp_4 : cX2_camp.data.toList.drop 94 = dktX2_camp_4 := dk_seg dksX2_camp_3 24 rfl rfl
theorem dX2_camp_0 : decode cX2_camp 0 = .ok (.aload_n 0, 1) := dk_42 (dk_at dksX2_camp_0 0 rfl rfl)
theorem dX2_camp_1 : decode cX2_camp 1 = .ok (.invokevirtual 163, 3) := dk_182 0 163 (dk_at dksX2_camp_0 1 rfl rfl)
theorem dX2_camp_4 : decode cX2_camp 4 = .ok (.aload_n 0, 1) := dk_42 (dk_at dksX2_camp_0 4 rfl rfl)
theorem dX2_camp_5 : decode cX2_camp 5 = .ok (.new 166, 3) := dk_187 0 166 (dk_at dksX2_camp_0 5 rfl rfl)
theorem dX2_camp_8 : decode cX2_camp 8 = .ok (.dup, 1) := dk_89 (dk_at dksX2_camp_0 8 rfl rfl)
theorem dX2_camp_9 : decode cX2_camp 9 = .ok (.invokespecial 168, 3) := dk_183 0 168 (dk_at dksX2_camp_0 9 rfl rfl)
theorem dX2_camp_12 : decode cX2_camp 12 = .ok (.putfield 169, 3) := dk_181 0 169 (dk_at dksX2_camp_0 12 rfl rfl)
theorem dX2_camp_15 : decode cX2_camp 15 = .ok (.aload_n 0, 1) := dk_42 (dk_at dksX2_camp_0 15 rfl rfl)
theorem dX2_camp_16 : decode cX2_camp 16 = .ok (.iconst 0, 1) := dk_3 (dk_at dksX2_camp_0 16 rfl rfl)
theorem dX2_camp_17 : decode cX2_camp 17 = .ok (.putfield 173, 3) := dk_181 0 173 (dk_at dksX2_camp_0 17 rfl rfl)
theorem dX2_camp_20 : decode cX2_camp 20 = .ok (.aload_n 0, 1) := dk_42 (dk_at dksX2_camp_0 20 rfl rfl)
theorem dX2_camp_21 : decode cX2_camp 21 = .ok (.getfield 85, 3) := dk_180 0 85 (dk_at dksX2_camp_0 21 rfl rfl)
theorem dX2_camp_24 : decode cX2_camp 24 = .ok (.aload_n 0, 1) := dk_42 (dk_at dksX2_camp_1 0 rfl rfl)
theorem dX2_camp_25 : decode cX2_camp 25 = .ok (.getfield 134, 3) := dk_180 0 134 (dk_at dksX2_camp_1 1 rfl rfl)
theorem dX2_camp_28 : decode cX2_camp 28 = .ok (.iaload, 1) := dk_46 (dk_at dksX2_camp_1 4 rfl rfl)
theorem dX2_camp_29 : decode cX2_camp 29 = .ok (.ifCond .eq 64, 3) := dk_153 0 64 (dk_at dksX2_camp_1 5 rfl rfl)
theorem dX2_camp_32 : decode cX2_camp 32 = .ok (.aload_n 0, 1) := dk_42 (dk_at dksX2_camp_1 8 rfl rfl)
theorem dX2_camp_33 : decode cX2_camp 33 = .ok (.ldc 42, 2) := dk_18 42 (dk_at dksX2_camp_1 9 rfl rfl)
theorem dX2_camp_35 : decode cX2_camp 35 = .ok (.invokevirtual 145, 3) := dk_182 0 145 (dk_at dksX2_camp_1 11 rfl rfl)
theorem dX2_camp_38 : decode cX2_camp 38 = .ok (.ifCond .eq 10, 3) := dk_153 0 10 (dk_at dksX2_camp_1 14 rfl rfl)
theorem dX2_camp_41 : decode cX2_camp 41 = .ok (.aload_n 0, 1) := dk_42 (dk_at dksX2_camp_1 17 rfl rfl)
theorem dX2_camp_42 : decode cX2_camp 42 = .ok (.invokevirtual 176, 3) := dk_182 0 176 (dk_at dksX2_camp_1 18 rfl rfl)
theorem dX2_camp_45 : decode cX2_camp 45 = .ok (.goto 39, 3) := dk_167 0 39 (dk_at dksX2_camp_1 21 rfl rfl)
theorem dX2_camp_48 : decode cX2_camp 48 = .ok (.aload_n 0, 1) := dk_42 (dk_at dksX2_camp_2 0 rfl rfl)
theorem dX2_camp_49 : decode cX2_camp 49 = .ok (.ldc 44, 2) := dk_18 44 (dk_at dksX2_camp_2 1 rfl rfl)
theorem dX2_camp_51 : decode cX2_camp 51 = .ok (.invokevirtual 145, 3) := dk_182 0 145 (dk_at dksX2_camp_2 3 rfl rfl)
theorem dX2_camp_54 : decode cX2_camp 54 = .ok (.ifCond .eq 10, 3) := dk_153 0 10 (dk_at dksX2_camp_2 6 rfl rfl)
theorem dX2_camp_57 : decode cX2_camp 57 = .ok (.aload_n 0, 1) := dk_42 (dk_at dksX2_camp_2 9 rfl rfl)
theorem dX2_camp_58 : decode cX2_camp 58 = .ok (.invokevirtual 178, 3) := dk_182 0 178 (dk_at dksX2_camp_2 10 rfl rfl)
theorem dX2_camp_61 : decode cX2_camp 61 = .ok (.goto 23, 3) := dk_167 0 23 (dk_at dksX2_camp_2 13 rfl rfl)
theorem dX2_camp_64 : decode cX2_camp 64 = .ok (.aload_n 0, 1) := dk_42 (dk_at dksX2_camp_2 16 rfl rfl)
theorem dX2_camp_65 : decode cX2_camp 65 = .ok (.ldc 54, 2) := dk_18 54 (dk_at dksX2_camp_2 17 rfl rfl)
theorem dX2_camp_67 : decode cX2_camp 67 = .ok (.invokevirtual 145, 3) := dk_182 0 145 (dk_at dksX2_camp_2 19 rfl rfl)
theorem dX2_camp_70 : decode cX2_camp 70 = .ok (.ifCond .eq 10, 3) := dk_153 0 10 (dk_at dksX2_camp_3 0 rfl rfl)
theorem dX2_camp_73 : decode cX2_camp 73 = .ok (.aload_n 0, 1) := dk_42 (dk_at dksX2_camp_3 3 rfl rfl)
theorem dX2_camp_74 : decode cX2_camp 74 = .ok (.invokevirtual 180, 3) := dk_182 0 180 (dk_at dksX2_camp_3 4 rfl rfl)
theorem dX2_camp_77 : decode cX2_camp 77 = .ok (.goto 7, 3) := dk_167 0 7 (dk_at dksX2_camp_3 7 rfl rfl)
theorem dX2_camp_80 : decode cX2_camp 80 = .ok (.aload_n 0, 1) := dk_42 (dk_at dksX2_camp_3 10 rfl rfl)
theorem dX2_camp_81 : decode cX2_camp 81 = .ok (.invokevirtual 182, 3) := dk_182 0 182 (dk_at dksX2_camp_3 11 rfl rfl)
theorem dX2_camp_84 : decode cX2_camp 84 = .ok (.aload_n 0, 1) := dk_42 (dk_at dksX2_camp_3 14 rfl rfl)
theorem dX2_camp_85 : decode cX2_camp 85 = .ok (.bipush 59, 2) := dk_16 59 (dk_at dksX2_camp_3 15 rfl rfl)
theorem dX2_camp_87 : decode cX2_camp 87 = .ok (.invokevirtual 185, 3) := dk_182 0 185 (dk_at dksX2_camp_3 17 rfl rfl)
theorem dX2_camp_90 : decode cX2_camp 90 = .ok (.goto (-70), 3) := dk_167 255 186 (dk_at dksX2_camp_3 20 rfl rfl)
theorem dX2_camp_93 : decode cX2_camp 93 = .ok (.aload_n 0, 1) := dk_42 (dk_at dksX2_camp_3 23 rfl rfl)
theorem dX2_camp_94 : decode cX2_camp 94 = .ok (.getfield 169, 3) := dk_180 0 169 (dk_at dksX2_camp_4 0 rfl rfl)
theorem dX2_camp_97 : decode cX2_camp 97 = .ok (.areturn, 1) := dk_176 (dk_at dksX2_camp_4 3 rfl rfl)
def dkwX2_cut_12 : List UInt8 := [181, 0, 134, 177]
abbrev dktX2_cut_12 : List UInt8 := dkwX2_cut_12 ++ []
def dkwX2_cut_11 : List UInt8 := [79, 132, 2, 1, 167, 255, 5, 42, 180, 0, 85, 28, 3, 79, 42, 180, 0, 92, 28, 27, 79, 42, 3]
abbrev dktX2_cut_11 : List UInt8 := dkwX2_cut_11 ++ dktX2_cut_12
def dkwX2_cut_10 : List UInt8 := [155, 0, 7, 6, 167, 0, 4, 7, 79, 42, 180, 0, 88, 28, 22, 6, 80, 42, 180, 0, 92, 28, 21, 5]
abbrev dktX2_cut_10 : List UInt8 := dkwX2_cut_10 ++ dktX2_cut_11
def dkwX2_cut_9 : List UInt8 := [79, 167, 0, 32, 21, 4, 133, 55, 6, 132, 3, 1, 42, 180, 0, 85, 28, 18, 128, 21, 4, 182, 0, 130]
abbrev dktX2_cut_9 : List UInt8 := dkwX2_cut_9 ++ dktX2_cut_10
def dkwX2_cut_8 : List UInt8 := [132, 3, 1, 167, 255, 208, 42, 180, 0, 85, 28, 29, 21, 5, 100, 7, 164, 0, 7, 7, 167, 0, 4, 5]
abbrev dktX2_cut_8 : List UInt8 := dkwX2_cut_8 ++ dktX2_cut_9
def dkwX2_cut_7 : List UInt8 := [7, 162, 0, 23, 20, 0, 124, 22, 6, 105, 42, 180, 0, 81, 29, 46, 133, 97, 20, 0, 126, 101, 55, 6]
abbrev dktX2_cut_7 : List UInt8 := dkwX2_cut_7 ++ dktX2_cut_8
def dkwX2_cut_6 : List UInt8 := [153, 0, 76, 29, 27, 162, 0, 49, 42, 180, 0, 81, 29, 46, 184, 0, 121, 153, 0, 37, 29, 21, 5, 100]
abbrev dktX2_cut_6 : List UInt8 := dkwX2_cut_6 ++ dktX2_cut_7
def dkwX2_cut_5 : List UInt8 := [29, 21, 5, 100, 16, 8, 164, 0, 7, 7, 167, 0, 4, 4, 79, 167, 0, 113, 21, 4, 184, 0, 121]
abbrev dktX2_cut_5 : List UInt8 := dkwX2_cut_5 ++ dktX2_cut_6
def dkwX2_cut_4 : List UInt8 := [180, 0, 81, 29, 46, 133, 97, 20, 0, 115, 101, 55, 6, 132, 3, 1, 167, 255, 207, 42, 180, 0, 85, 28]
abbrev dktX2_cut_4 : List UInt8 := dkwX2_cut_4 ++ dktX2_cut_5
def dkwX2_cut_3 : List UInt8 := [184, 0, 117, 153, 0, 38, 29, 21, 5, 100, 16, 8, 162, 0, 23, 20, 0, 109, 22, 6, 105, 42]
abbrev dktX2_cut_3 : List UInt8 := dkwX2_cut_3 ++ dktX2_cut_4
def dkwX2_cut_2 : List UInt8 := [54, 5, 9, 55, 6, 21, 4, 184, 0, 117, 153, 0, 78, 29, 27, 162, 0, 50, 42, 180, 0, 81, 29, 46]
abbrev dktX2_cut_2 : List UInt8 := dkwX2_cut_2 ++ dktX2_cut_3
def dkwX2_cut_1 : List UInt8 := [46, 54, 4, 21, 4, 16, 10, 159, 0, 10, 21, 4, 16, 32, 160, 0, 9, 132, 3, 1, 167, 255, 226, 29]
abbrev dktX2_cut_1 : List UInt8 := dkwX2_cut_1 ++ dktX2_cut_2
def dkwX2_cut_0 : List UInt8 := [42, 180, 0, 101, 60, 42, 3, 181, 0, 101, 3, 61, 3, 62, 29, 27, 162, 0, 252, 42, 180, 0, 81, 29]
abbrev dktX2_cut_0 : List UInt8 := dkwX2_cut_0 ++ dktX2_cut_1
theorem dksX2_cut_0 : cX2_cut.data.toList.drop 0 = dktX2_cut_0 := by decide +kernel
theorem dksX2_cut_1 : cX2_cut.data.toList.drop 24 = dktX2_cut_1 := dk_seg dksX2_cut_0 24 rfl rfl
theorem dksX2_cut_2 : cX2_cut.data.toList.drop 48 = dktX2_cut_2 := dk_seg dksX2_cut_1 24 rfl rfl
theorem dksX2_cut_3 : cX2_cut.data.toList.drop 72 = dktX2_cut_3 := dk_seg dksX2_cut_2 24 rfl rfl
theorem dksX2_cut_4 : cX2_cut.data.toList.drop 94 = dktX2_cut_4 := dk_seg dksX2_cut_3 22 rfl rfl
theorem dksX2_cut_5 : cX2_cut.data.toList.drop 118 = dktX2_cut_5 := dk_seg dksX2_cut_4 24 rfl rfl
theorem dksX2_cut_6 : cX2_cut.data.toList.drop 141 = dktX2_cut_6 := dk_seg dksX2_cut_5 23 rfl rfl
theorem dksX2_cut_7 : cX2_cut.data.toList.drop 165 = dktX2_cut_7 := dk_seg dksX2_cut_6 24 rfl rfl
theorem dksX2_cut_8 : cX2_cut.data.toList.drop 189 = dktX2_cut_8 := dk_seg dksX2_cut_7 24 rfl rfl
theorem dksX2_cut_9 : cX2_cut.data.toList.drop 213 = dktX2_cut_9 := dk_seg dksX2_cut_8 24 rfl rfl
theorem dksX2_cut_10 : cX2_cut.data.toList.drop 237 = dktX2_cut_10 := dk_seg dksX2_cut_9 24 rfl rfl
theorem dksX2_cut_11 : cX2_cut.data.toList.drop 261 = dktX2_cut_11 := dk_seg dksX2_cut_10 24 rfl rfl
theorem dksX2_cut_12 : cX2_cut.data.toList.drop 284 = dktX2_cut_12 := dk_seg dksX2_cut_11 23 rfl rfl
theorem dX2_cut_0 : decode cX2_cut 0 = .ok (.aload_n 0, 1) := dk_42 (dk_at dksX2_cut_0 0 rfl rfl)
theorem dX2_cut_1 : decode cX2_cut 1 = .ok (.getfield 101, 3) := dk_180 0 101 (dk_at dksX2_cut_0 1 rfl rfl)
theorem dX2_cut_4 : decode cX2_cut 4 = .ok (.istore_n 1, 1) := dk_60 (dk_at dksX2_cut_0 4 rfl rfl)
theorem dX2_cut_5 : decode cX2_cut 5 = .ok (.aload_n 0, 1) := dk_42 (dk_at dksX2_cut_0 5 rfl rfl)
theorem dX2_cut_6 : decode cX2_cut 6 = .ok (.iconst 0, 1) := dk_3 (dk_at dksX2_cut_0 6 rfl rfl)
theorem dX2_cut_7 : decode cX2_cut 7 = .ok (.putfield 101, 3) := dk_181 0 101 (dk_at dksX2_cut_0 7 rfl rfl)
theorem dX2_cut_10 : decode cX2_cut 10 = .ok (.iconst 0, 1) := dk_3 (dk_at dksX2_cut_0 10 rfl rfl)
theorem dX2_cut_11 : decode cX2_cut 11 = .ok (.istore_n 2, 1) := dk_61 (dk_at dksX2_cut_0 11 rfl rfl)
theorem dX2_cut_12 : decode cX2_cut 12 = .ok (.iconst 0, 1) := dk_3 (dk_at dksX2_cut_0 12 rfl rfl)
theorem dX2_cut_13 : decode cX2_cut 13 = .ok (.istore_n 3, 1) := dk_62 (dk_at dksX2_cut_0 13 rfl rfl)
theorem dX2_cut_14 : decode cX2_cut 14 = .ok (.iload_n 3, 1) := dk_29 (dk_at dksX2_cut_0 14 rfl rfl)
theorem dX2_cut_15 : decode cX2_cut 15 = .ok (.iload_n 1, 1) := dk_27 (dk_at dksX2_cut_0 15 rfl rfl)
theorem dX2_cut_16 : decode cX2_cut 16 = .ok (.if_icmp .ge 252, 3) := dk_162 0 252 (dk_at dksX2_cut_0 16 rfl rfl)
theorem dX2_cut_19 : decode cX2_cut 19 = .ok (.aload_n 0, 1) := dk_42 (dk_at dksX2_cut_0 19 rfl rfl)
theorem dX2_cut_20 : decode cX2_cut 20 = .ok (.getfield 81, 3) := dk_180 0 81 (dk_at dksX2_cut_0 20 rfl rfl)
theorem dX2_cut_23 : decode cX2_cut 23 = .ok (.iload_n 3, 1) := dk_29 (dk_at dksX2_cut_0 23 rfl rfl)
theorem dX2_cut_24 : decode cX2_cut 24 = .ok (.iaload, 1) := dk_46 (dk_at dksX2_cut_1 0 rfl rfl)
theorem dX2_cut_25 : decode cX2_cut 25 = .ok (.istore 4, 2) := dk_54 4 (dk_at dksX2_cut_1 1 rfl rfl)
theorem dX2_cut_27 : decode cX2_cut 27 = .ok (.iload 4, 2) := dk_21 4 (dk_at dksX2_cut_1 3 rfl rfl)
theorem dX2_cut_29 : decode cX2_cut 29 = .ok (.bipush 10, 2) := dk_16 10 (dk_at dksX2_cut_1 5 rfl rfl)
theorem dX2_cut_31 : decode cX2_cut 31 = .ok (.if_icmp .eq 10, 3) := dk_159 0 10 (dk_at dksX2_cut_1 7 rfl rfl)
theorem dX2_cut_34 : decode cX2_cut 34 = .ok (.iload 4, 2) := dk_21 4 (dk_at dksX2_cut_1 10 rfl rfl)
theorem dX2_cut_36 : decode cX2_cut 36 = .ok (.bipush 32, 2) := dk_16 32 (dk_at dksX2_cut_1 12 rfl rfl)
theorem dX2_cut_38 : decode cX2_cut 38 = .ok (.if_icmp .ne 9, 3) := dk_160 0 9 (dk_at dksX2_cut_1 14 rfl rfl)
theorem dX2_cut_41 : decode cX2_cut 41 = .ok (.iinc 3 1, 3) := dk_132 3 1 (dk_at dksX2_cut_1 17 rfl rfl)
theorem dX2_cut_44 : decode cX2_cut 44 = .ok (.goto (-30), 3) := dk_167 255 226 (dk_at dksX2_cut_1 20 rfl rfl)
theorem dX2_cut_47 : decode cX2_cut 47 = .ok (.iload_n 3, 1) := dk_29 (dk_at dksX2_cut_1 23 rfl rfl)
theorem dX2_cut_48 : decode cX2_cut 48 = .ok (.istore 5, 2) := dk_54 5 (dk_at dksX2_cut_2 0 rfl rfl)
theorem dX2_cut_50 : decode cX2_cut 50 = .ok (.lconst 0, 1) := dk_9 (dk_at dksX2_cut_2 2 rfl rfl)
theorem dX2_cut_51 : decode cX2_cut 51 = .ok (.lstore 6, 2) := dk_55 6 (dk_at dksX2_cut_2 3 rfl rfl)
theorem dX2_cut_53 : decode cX2_cut 53 = .ok (.iload 4, 2) := dk_21 4 (dk_at dksX2_cut_2 5 rfl rfl)
theorem dX2_cut_55 : decode cX2_cut 55 = .ok (.invokestatic 117, 3) := dk_184 0 117 (dk_at dksX2_cut_2 7 rfl rfl)
theorem dX2_cut_58 : decode cX2_cut 58 = .ok (.ifCond .eq 78, 3) := dk_153 0 78 (dk_at dksX2_cut_2 10 rfl rfl)
theorem dX2_cut_61 : decode cX2_cut 61 = .ok (.iload_n 3, 1) := dk_29 (dk_at dksX2_cut_2 13 rfl rfl)
theorem dX2_cut_62 : decode cX2_cut 62 = .ok (.iload_n 1, 1) := dk_27 (dk_at dksX2_cut_2 14 rfl rfl)
theorem dX2_cut_63 : decode cX2_cut 63 = .ok (.if_icmp .ge 50, 3) := dk_162 0 50 (dk_at dksX2_cut_2 15 rfl rfl)
theorem dX2_cut_66 : decode cX2_cut 66 = .ok (.aload_n 0, 1) := dk_42 (dk_at dksX2_cut_2 18 rfl rfl)
theorem dX2_cut_67 : decode cX2_cut 67 = .ok (.getfield 81, 3) := dk_180 0 81 (dk_at dksX2_cut_2 19 rfl rfl)
theorem dX2_cut_70 : decode cX2_cut 70 = .ok (.iload_n 3, 1) := dk_29 (dk_at dksX2_cut_2 22 rfl rfl)
theorem dX2_cut_71 : decode cX2_cut 71 = .ok (.iaload, 1) := dk_46 (dk_at dksX2_cut_2 23 rfl rfl)
theorem dX2_cut_72 : decode cX2_cut 72 = .ok (.invokestatic 117, 3) := dk_184 0 117 (dk_at dksX2_cut_3 0 rfl rfl)
theorem dX2_cut_75 : decode cX2_cut 75 = .ok (.ifCond .eq 38, 3) := dk_153 0 38 (dk_at dksX2_cut_3 3 rfl rfl)
theorem dX2_cut_78 : decode cX2_cut 78 = .ok (.iload_n 3, 1) := dk_29 (dk_at dksX2_cut_3 6 rfl rfl)
theorem dX2_cut_79 : decode cX2_cut 79 = .ok (.iload 5, 2) := dk_21 5 (dk_at dksX2_cut_3 7 rfl rfl)
theorem dX2_cut_81 : decode cX2_cut 81 = .ok (.isub, 1) := dk_100 (dk_at dksX2_cut_3 9 rfl rfl)
theorem dX2_cut_82 : decode cX2_cut 82 = .ok (.bipush 8, 2) := dk_16 8 (dk_at dksX2_cut_3 10 rfl rfl)
theorem dX2_cut_84 : decode cX2_cut 84 = .ok (.if_icmp .ge 23, 3) := dk_162 0 23 (dk_at dksX2_cut_3 12 rfl rfl)
theorem dX2_cut_87 : decode cX2_cut 87 = .ok (.ldc2_w 109, 3) := dk_20 0 109 (dk_at dksX2_cut_3 15 rfl rfl)
theorem dX2_cut_90 : decode cX2_cut 90 = .ok (.lload 6, 2) := dk_22 6 (dk_at dksX2_cut_3 18 rfl rfl)
theorem dX2_cut_92 : decode cX2_cut 92 = .ok (.lmul, 1) := dk_105 (dk_at dksX2_cut_3 20 rfl rfl)
theorem dX2_cut_93 : decode cX2_cut 93 = .ok (.aload_n 0, 1) := dk_42 (dk_at dksX2_cut_3 21 rfl rfl)
theorem dX2_cut_94 : decode cX2_cut 94 = .ok (.getfield 81, 3) := dk_180 0 81 (dk_at dksX2_cut_4 0 rfl rfl)
theorem dX2_cut_97 : decode cX2_cut 97 = .ok (.iload_n 3, 1) := dk_29 (dk_at dksX2_cut_4 3 rfl rfl)
theorem dX2_cut_98 : decode cX2_cut 98 = .ok (.iaload, 1) := dk_46 (dk_at dksX2_cut_4 4 rfl rfl)
theorem dX2_cut_99 : decode cX2_cut 99 = .ok (.i2l, 1) := dk_133 (dk_at dksX2_cut_4 5 rfl rfl)
theorem dX2_cut_100 : decode cX2_cut 100 = .ok (.ladd, 1) := dk_97 (dk_at dksX2_cut_4 6 rfl rfl)
theorem dX2_cut_101 : decode cX2_cut 101 = .ok (.ldc2_w 115, 3) := dk_20 0 115 (dk_at dksX2_cut_4 7 rfl rfl)
theorem dX2_cut_104 : decode cX2_cut 104 = .ok (.lsub, 1) := dk_101 (dk_at dksX2_cut_4 10 rfl rfl)
theorem dX2_cut_105 : decode cX2_cut 105 = .ok (.lstore 6, 2) := dk_55 6 (dk_at dksX2_cut_4 11 rfl rfl)
theorem dX2_cut_107 : decode cX2_cut 107 = .ok (.iinc 3 1, 3) := dk_132 3 1 (dk_at dksX2_cut_4 13 rfl rfl)
theorem dX2_cut_110 : decode cX2_cut 110 = .ok (.goto (-49), 3) := dk_167 255 207 (dk_at dksX2_cut_4 16 rfl rfl)
theorem dX2_cut_113 : decode cX2_cut 113 = .ok (.aload_n 0, 1) := dk_42 (dk_at dksX2_cut_4 19 rfl rfl)
theorem dX2_cut_114 : decode cX2_cut 114 = .ok (.getfield 85, 3) := dk_180 0 85 (dk_at dksX2_cut_4 20 rfl rfl)
theorem dX2_cut_117 : decode cX2_cut 117 = .ok (.iload_n 2, 1) := dk_28 (dk_at dksX2_cut_4 23 rfl rfl)
theorem dX2_cut_118 : decode cX2_cut 118 = .ok (.iload_n 3, 1) := dk_29 (dk_at dksX2_cut_5 0 rfl rfl)
theorem dX2_cut_119 : decode cX2_cut 119 = .ok (.iload 5, 2) := dk_21 5 (dk_at dksX2_cut_5 1 rfl rfl)
theorem dX2_cut_121 : decode cX2_cut 121 = .ok (.isub, 1) := dk_100 (dk_at dksX2_cut_5 3 rfl rfl)
theorem dX2_cut_122 : decode cX2_cut 122 = .ok (.bipush 8, 2) := dk_16 8 (dk_at dksX2_cut_5 4 rfl rfl)
theorem dX2_cut_124 : decode cX2_cut 124 = .ok (.if_icmp .le 7, 3) := dk_164 0 7 (dk_at dksX2_cut_5 6 rfl rfl)
theorem dX2_cut_127 : decode cX2_cut 127 = .ok (.iconst 4, 1) := dk_7 (dk_at dksX2_cut_5 9 rfl rfl)
theorem dX2_cut_128 : decode cX2_cut 128 = .ok (.goto 4, 3) := dk_167 0 4 (dk_at dksX2_cut_5 10 rfl rfl)
theorem dX2_cut_131 : decode cX2_cut 131 = .ok (.iconst 1, 1) := dk_4 (dk_at dksX2_cut_5 13 rfl rfl)
theorem dX2_cut_132 : decode cX2_cut 132 = .ok (.iastore, 1) := dk_79 (dk_at dksX2_cut_5 14 rfl rfl)
theorem dX2_cut_133 : decode cX2_cut 133 = .ok (.goto 113, 3) := dk_167 0 113 (dk_at dksX2_cut_5 15 rfl rfl)
theorem dX2_cut_136 : decode cX2_cut 136 = .ok (.iload 4, 2) := dk_21 4 (dk_at dksX2_cut_5 18 rfl rfl)
theorem dX2_cut_138 : decode cX2_cut 138 = .ok (.invokestatic 121, 3) := dk_184 0 121 (dk_at dksX2_cut_5 20 rfl rfl)
theorem dX2_cut_141 : decode cX2_cut 141 = .ok (.ifCond .eq 76, 3) := dk_153 0 76 (dk_at dksX2_cut_6 0 rfl rfl)
theorem dX2_cut_144 : decode cX2_cut 144 = .ok (.iload_n 3, 1) := dk_29 (dk_at dksX2_cut_6 3 rfl rfl)
theorem dX2_cut_145 : decode cX2_cut 145 = .ok (.iload_n 1, 1) := dk_27 (dk_at dksX2_cut_6 4 rfl rfl)
theorem dX2_cut_146 : decode cX2_cut 146 = .ok (.if_icmp .ge 49, 3) := dk_162 0 49 (dk_at dksX2_cut_6 5 rfl rfl)
theorem dX2_cut_149 : decode cX2_cut 149 = .ok (.aload_n 0, 1) := dk_42 (dk_at dksX2_cut_6 8 rfl rfl)
theorem dX2_cut_150 : decode cX2_cut 150 = .ok (.getfield 81, 3) := dk_180 0 81 (dk_at dksX2_cut_6 9 rfl rfl)
theorem dX2_cut_153 : decode cX2_cut 153 = .ok (.iload_n 3, 1) := dk_29 (dk_at dksX2_cut_6 12 rfl rfl)
theorem dX2_cut_154 : decode cX2_cut 154 = .ok (.iaload, 1) := dk_46 (dk_at dksX2_cut_6 13 rfl rfl)
theorem dX2_cut_155 : decode cX2_cut 155 = .ok (.invokestatic 121, 3) := dk_184 0 121 (dk_at dksX2_cut_6 14 rfl rfl)
theorem dX2_cut_158 : decode cX2_cut 158 = .ok (.ifCond .eq 37, 3) := dk_153 0 37 (dk_at dksX2_cut_6 17 rfl rfl)
theorem dX2_cut_161 : decode cX2_cut 161 = .ok (.iload_n 3, 1) := dk_29 (dk_at dksX2_cut_6 20 rfl rfl)
theorem dX2_cut_162 : decode cX2_cut 162 = .ok (.iload 5, 2) := dk_21 5 (dk_at dksX2_cut_6 21 rfl rfl)
theorem dX2_cut_164 : decode cX2_cut 164 = .ok (.isub, 1) := dk_100 (dk_at dksX2_cut_6 23 rfl rfl)
theorem dX2_cut_165 : decode cX2_cut 165 = .ok (.iconst 4, 1) := dk_7 (dk_at dksX2_cut_7 0 rfl rfl)
theorem dX2_cut_166 : decode cX2_cut 166 = .ok (.if_icmp .ge 23, 3) := dk_162 0 23 (dk_at dksX2_cut_7 1 rfl rfl)
theorem dX2_cut_169 : decode cX2_cut 169 = .ok (.ldc2_w 124, 3) := dk_20 0 124 (dk_at dksX2_cut_7 4 rfl rfl)
theorem dX2_cut_172 : decode cX2_cut 172 = .ok (.lload 6, 2) := dk_22 6 (dk_at dksX2_cut_7 7 rfl rfl)
theorem dX2_cut_174 : decode cX2_cut 174 = .ok (.lmul, 1) := dk_105 (dk_at dksX2_cut_7 9 rfl rfl)
theorem dX2_cut_175 : decode cX2_cut 175 = .ok (.aload_n 0, 1) := dk_42 (dk_at dksX2_cut_7 10 rfl rfl)
theorem dX2_cut_176 : decode cX2_cut 176 = .ok (.getfield 81, 3) := dk_180 0 81 (dk_at dksX2_cut_7 11 rfl rfl)
theorem dX2_cut_179 : decode cX2_cut 179 = .ok (.iload_n 3, 1) := dk_29 (dk_at dksX2_cut_7 14 rfl rfl)
theorem dX2_cut_180 : decode cX2_cut 180 = .ok (.iaload, 1) := dk_46 (dk_at dksX2_cut_7 15 rfl rfl)
theorem dX2_cut_181 : decode cX2_cut 181 = .ok (.i2l, 1) := dk_133 (dk_at dksX2_cut_7 16 rfl rfl)
theorem dX2_cut_182 : decode cX2_cut 182 = .ok (.ladd, 1) := dk_97 (dk_at dksX2_cut_7 17 rfl rfl)
theorem dX2_cut_183 : decode cX2_cut 183 = .ok (.ldc2_w 126, 3) := dk_20 0 126 (dk_at dksX2_cut_7 18 rfl rfl)
theorem dX2_cut_186 : decode cX2_cut 186 = .ok (.lsub, 1) := dk_101 (dk_at dksX2_cut_7 21 rfl rfl)
theorem dX2_cut_187 : decode cX2_cut 187 = .ok (.lstore 6, 2) := dk_55 6 (dk_at dksX2_cut_7 22 rfl rfl)
theorem dX2_cut_189 : decode cX2_cut 189 = .ok (.iinc 3 1, 3) := dk_132 3 1 (dk_at dksX2_cut_8 0 rfl rfl)
theorem dX2_cut_192 : decode cX2_cut 192 = .ok (.goto (-48), 3) := dk_167 255 208 (dk_at dksX2_cut_8 3 rfl rfl)
theorem dX2_cut_195 : decode cX2_cut 195 = .ok (.aload_n 0, 1) := dk_42 (dk_at dksX2_cut_8 6 rfl rfl)
theorem dX2_cut_196 : decode cX2_cut 196 = .ok (.getfield 85, 3) := dk_180 0 85 (dk_at dksX2_cut_8 7 rfl rfl)
theorem dX2_cut_199 : decode cX2_cut 199 = .ok (.iload_n 2, 1) := dk_28 (dk_at dksX2_cut_8 10 rfl rfl)
theorem dX2_cut_200 : decode cX2_cut 200 = .ok (.iload_n 3, 1) := dk_29 (dk_at dksX2_cut_8 11 rfl rfl)
theorem dX2_cut_201 : decode cX2_cut 201 = .ok (.iload 5, 2) := dk_21 5 (dk_at dksX2_cut_8 12 rfl rfl)
theorem dX2_cut_203 : decode cX2_cut 203 = .ok (.isub, 1) := dk_100 (dk_at dksX2_cut_8 14 rfl rfl)
theorem dX2_cut_204 : decode cX2_cut 204 = .ok (.iconst 4, 1) := dk_7 (dk_at dksX2_cut_8 15 rfl rfl)
theorem dX2_cut_205 : decode cX2_cut 205 = .ok (.if_icmp .le 7, 3) := dk_164 0 7 (dk_at dksX2_cut_8 16 rfl rfl)
theorem dX2_cut_208 : decode cX2_cut 208 = .ok (.iconst 4, 1) := dk_7 (dk_at dksX2_cut_8 19 rfl rfl)
theorem dX2_cut_209 : decode cX2_cut 209 = .ok (.goto 4, 3) := dk_167 0 4 (dk_at dksX2_cut_8 20 rfl rfl)
theorem dX2_cut_212 : decode cX2_cut 212 = .ok (.iconst 2, 1) := dk_5 (dk_at dksX2_cut_8 23 rfl rfl)
theorem dX2_cut_213 : decode cX2_cut 213 = .ok (.iastore, 1) := dk_79 (dk_at dksX2_cut_9 0 rfl rfl)
theorem dX2_cut_214 : decode cX2_cut 214 = .ok (.goto 32, 3) := dk_167 0 32 (dk_at dksX2_cut_9 1 rfl rfl)
theorem dX2_cut_217 : decode cX2_cut 217 = .ok (.iload 4, 2) := dk_21 4 (dk_at dksX2_cut_9 4 rfl rfl)
theorem dX2_cut_219 : decode cX2_cut 219 = .ok (.i2l, 1) := dk_133 (dk_at dksX2_cut_9 6 rfl rfl)
theorem dX2_cut_220 : decode cX2_cut 220 = .ok (.lstore 6, 2) := dk_55 6 (dk_at dksX2_cut_9 7 rfl rfl)
theorem dX2_cut_222 : decode cX2_cut 222 = .ok (.iinc 3 1, 3) := dk_132 3 1 (dk_at dksX2_cut_9 9 rfl rfl)
theorem dX2_cut_225 : decode cX2_cut 225 = .ok (.aload_n 0, 1) := dk_42 (dk_at dksX2_cut_9 12 rfl rfl)
theorem dX2_cut_226 : decode cX2_cut 226 = .ok (.getfield 85, 3) := dk_180 0 85 (dk_at dksX2_cut_9 13 rfl rfl)
theorem dX2_cut_229 : decode cX2_cut 229 = .ok (.iload_n 2, 1) := dk_28 (dk_at dksX2_cut_9 16 rfl rfl)
theorem dX2_cut_230 : decode cX2_cut 230 = .ok (.ldc 128, 2) := dk_18 128 (dk_at dksX2_cut_9 17 rfl rfl)
theorem dX2_cut_232 : decode cX2_cut 232 = .ok (.iload 4, 2) := dk_21 4 (dk_at dksX2_cut_9 19 rfl rfl)
theorem dX2_cut_234 : decode cX2_cut 234 = .ok (.invokevirtual 130, 3) := dk_182 0 130 (dk_at dksX2_cut_9 21 rfl rfl)
theorem dX2_cut_237 : decode cX2_cut 237 = .ok (.ifCond .lt 7, 3) := dk_155 0 7 (dk_at dksX2_cut_10 0 rfl rfl)
theorem dX2_cut_240 : decode cX2_cut 240 = .ok (.iconst 3, 1) := dk_6 (dk_at dksX2_cut_10 3 rfl rfl)
theorem dX2_cut_241 : decode cX2_cut 241 = .ok (.goto 4, 3) := dk_167 0 4 (dk_at dksX2_cut_10 4 rfl rfl)
theorem dX2_cut_244 : decode cX2_cut 244 = .ok (.iconst 4, 1) := dk_7 (dk_at dksX2_cut_10 7 rfl rfl)
theorem dX2_cut_245 : decode cX2_cut 245 = .ok (.iastore, 1) := dk_79 (dk_at dksX2_cut_10 8 rfl rfl)
theorem dX2_cut_246 : decode cX2_cut 246 = .ok (.aload_n 0, 1) := dk_42 (dk_at dksX2_cut_10 9 rfl rfl)
theorem dX2_cut_247 : decode cX2_cut 247 = .ok (.getfield 88, 3) := dk_180 0 88 (dk_at dksX2_cut_10 10 rfl rfl)
theorem dX2_cut_250 : decode cX2_cut 250 = .ok (.iload_n 2, 1) := dk_28 (dk_at dksX2_cut_10 13 rfl rfl)
theorem dX2_cut_251 : decode cX2_cut 251 = .ok (.lload 6, 2) := dk_22 6 (dk_at dksX2_cut_10 14 rfl rfl)
theorem dX2_cut_253 : decode cX2_cut 253 = .ok (.lastore, 1) := dk_80 (dk_at dksX2_cut_10 16 rfl rfl)
theorem dX2_cut_254 : decode cX2_cut 254 = .ok (.aload_n 0, 1) := dk_42 (dk_at dksX2_cut_10 17 rfl rfl)
theorem dX2_cut_255 : decode cX2_cut 255 = .ok (.getfield 92, 3) := dk_180 0 92 (dk_at dksX2_cut_10 18 rfl rfl)
theorem dX2_cut_258 : decode cX2_cut 258 = .ok (.iload_n 2, 1) := dk_28 (dk_at dksX2_cut_10 21 rfl rfl)
theorem dX2_cut_259 : decode cX2_cut 259 = .ok (.iload 5, 2) := dk_21 5 (dk_at dksX2_cut_10 22 rfl rfl)
theorem dX2_cut_261 : decode cX2_cut 261 = .ok (.iastore, 1) := dk_79 (dk_at dksX2_cut_11 0 rfl rfl)
theorem dX2_cut_262 : decode cX2_cut 262 = .ok (.iinc 2 1, 3) := dk_132 2 1 (dk_at dksX2_cut_11 1 rfl rfl)
theorem dX2_cut_265 : decode cX2_cut 265 = .ok (.goto (-251), 3) := dk_167 255 5 (dk_at dksX2_cut_11 4 rfl rfl)
theorem dX2_cut_268 : decode cX2_cut 268 = .ok (.aload_n 0, 1) := dk_42 (dk_at dksX2_cut_11 7 rfl rfl)
theorem dX2_cut_269 : decode cX2_cut 269 = .ok (.getfield 85, 3) := dk_180 0 85 (dk_at dksX2_cut_11 8 rfl rfl)
theorem dX2_cut_272 : decode cX2_cut 272 = .ok (.iload_n 2, 1) := dk_28 (dk_at dksX2_cut_11 11 rfl rfl)
theorem dX2_cut_273 : decode cX2_cut 273 = .ok (.iconst 0, 1) := dk_3 (dk_at dksX2_cut_11 12 rfl rfl)
theorem dX2_cut_274 : decode cX2_cut 274 = .ok (.iastore, 1) := dk_79 (dk_at dksX2_cut_11 13 rfl rfl)
theorem dX2_cut_275 : decode cX2_cut 275 = .ok (.aload_n 0, 1) := dk_42 (dk_at dksX2_cut_11 14 rfl rfl)
theorem dX2_cut_276 : decode cX2_cut 276 = .ok (.getfield 92, 3) := dk_180 0 92 (dk_at dksX2_cut_11 15 rfl rfl)
theorem dX2_cut_279 : decode cX2_cut 279 = .ok (.iload_n 2, 1) := dk_28 (dk_at dksX2_cut_11 18 rfl rfl)
theorem dX2_cut_280 : decode cX2_cut 280 = .ok (.iload_n 1, 1) := dk_27 (dk_at dksX2_cut_11 19 rfl rfl)
theorem dX2_cut_281 : decode cX2_cut 281 = .ok (.iastore, 1) := dk_79 (dk_at dksX2_cut_11 20 rfl rfl)
theorem dX2_cut_282 : decode cX2_cut 282 = .ok (.aload_n 0, 1) := dk_42 (dk_at dksX2_cut_11 21 rfl rfl)
theorem dX2_cut_283 : decode cX2_cut 283 = .ok (.iconst 0, 1) := dk_3 (dk_at dksX2_cut_11 22 rfl rfl)
theorem dX2_cut_284 : decode cX2_cut 284 = .ok (.putfield 134, 3) := dk_181 0 134 (dk_at dksX2_cut_12 0 rfl rfl)
theorem dX2_cut_287 : decode cX2_cut 287 = .ok (.return_, 1) := dk_177 (dk_at dksX2_cut_12 3 rfl rfl)
def dkwX2_isLetter_0 : List UInt8 := [26, 16, 97, 16, 122, 184, 0, 97, 172]
abbrev dktX2_isLetter_0 : List UInt8 := dkwX2_isLetter_0 ++ []
theorem dksX2_isLetter_0 : cX2_isLetter.data.toList.drop 0 = dktX2_isLetter_0 := by decide +kernel
theorem dX2_isLetter_0 : decode cX2_isLetter 0 = .ok (.iload_n 0, 1) := dk_26 (dk_at dksX2_isLetter_0 0 rfl rfl)
theorem dX2_isLetter_1 : decode cX2_isLetter 1 = .ok (.bipush 97, 2) := dk_16 97 (dk_at dksX2_isLetter_0 1 rfl rfl)
theorem dX2_isLetter_3 : decode cX2_isLetter 3 = .ok (.bipush 122, 2) := dk_16 122 (dk_at dksX2_isLetter_0 3 rfl rfl)
theorem dX2_isLetter_5 : decode cX2_isLetter 5 = .ok (.invokestatic 97, 3) := dk_184 0 97 (dk_at dksX2_isLetter_0 5 rfl rfl)
theorem dX2_isLetter_8 : decode cX2_isLetter 8 = .ok (.ireturn, 1) := dk_172 (dk_at dksX2_isLetter_0 8 rfl rfl)
def dkwX2_isDigit_0 : List UInt8 := [26, 16, 48, 16, 57, 184, 0, 97, 172]
abbrev dktX2_isDigit_0 : List UInt8 := dkwX2_isDigit_0 ++ []
theorem dksX2_isDigit_0 : cX2_isDigit.data.toList.drop 0 = dktX2_isDigit_0 := by decide +kernel
theorem dX2_isDigit_0 : decode cX2_isDigit 0 = .ok (.iload_n 0, 1) := dk_26 (dk_at dksX2_isDigit_0 0 rfl rfl)
theorem dX2_isDigit_1 : decode cX2_isDigit 1 = .ok (.bipush 48, 2) := dk_16 48 (dk_at dksX2_isDigit_0 1 rfl rfl)
theorem dX2_isDigit_3 : decode cX2_isDigit 3 = .ok (.bipush 57, 2) := dk_16 57 (dk_at dksX2_isDigit_0 3 rfl rfl)
theorem dX2_isDigit_5 : decode cX2_isDigit 5 = .ok (.invokestatic 97, 3) := dk_184 0 97 (dk_at dksX2_isDigit_0 5 rfl rfl)
theorem dX2_isDigit_8 : decode cX2_isDigit 8 = .ok (.ireturn, 1) := dk_172 (dk_at dksX2_isDigit_0 8 rfl rfl)
def dkwX2_isWord_1 : List UInt8 := [184, 0, 141, 148, 154, 0, 7, 4, 167, 0, 4, 3, 172]
abbrev dktX2_isWord_1 : List UInt8 := dkwX2_isWord_1 ++ []
def dkwX2_isWord_0 : List UInt8 := [42, 180, 0, 85, 42, 180, 0, 134, 46, 4, 160, 0, 24, 42, 180, 0, 88, 42, 180, 0, 134, 47, 43]
abbrev dktX2_isWord_0 : List UInt8 := dkwX2_isWord_0 ++ dktX2_isWord_1
theorem dksX2_isWord_0 : cX2_isWord.data.toList.drop 0 = dktX2_isWord_0 := by decide +kernel
theorem dksX2_isWord_1 : cX2_isWord.data.toList.drop 23 = dktX2_isWord_1 := dk_seg dksX2_isWord_0 23 rfl rfl
theorem dX2_isWord_0 : decode cX2_isWord 0 = .ok (.aload_n 0, 1) := dk_42 (dk_at dksX2_isWord_0 0 rfl rfl)
theorem dX2_isWord_1 : decode cX2_isWord 1 = .ok (.getfield 85, 3) := dk_180 0 85 (dk_at dksX2_isWord_0 1 rfl rfl)
theorem dX2_isWord_4 : decode cX2_isWord 4 = .ok (.aload_n 0, 1) := dk_42 (dk_at dksX2_isWord_0 4 rfl rfl)
theorem dX2_isWord_5 : decode cX2_isWord 5 = .ok (.getfield 134, 3) := dk_180 0 134 (dk_at dksX2_isWord_0 5 rfl rfl)
theorem dX2_isWord_8 : decode cX2_isWord 8 = .ok (.iaload, 1) := dk_46 (dk_at dksX2_isWord_0 8 rfl rfl)
theorem dX2_isWord_9 : decode cX2_isWord 9 = .ok (.iconst 1, 1) := dk_4 (dk_at dksX2_isWord_0 9 rfl rfl)
theorem dX2_isWord_10 : decode cX2_isWord 10 = .ok (.if_icmp .ne 24, 3) := dk_160 0 24 (dk_at dksX2_isWord_0 10 rfl rfl)
theorem dX2_isWord_13 : decode cX2_isWord 13 = .ok (.aload_n 0, 1) := dk_42 (dk_at dksX2_isWord_0 13 rfl rfl)
theorem dX2_isWord_14 : decode cX2_isWord 14 = .ok (.getfield 88, 3) := dk_180 0 88 (dk_at dksX2_isWord_0 14 rfl rfl)
theorem dX2_isWord_17 : decode cX2_isWord 17 = .ok (.aload_n 0, 1) := dk_42 (dk_at dksX2_isWord_0 17 rfl rfl)
theorem dX2_isWord_18 : decode cX2_isWord 18 = .ok (.getfield 134, 3) := dk_180 0 134 (dk_at dksX2_isWord_0 18 rfl rfl)
theorem dX2_isWord_21 : decode cX2_isWord 21 = .ok (.laload, 1) := dk_47 (dk_at dksX2_isWord_0 21 rfl rfl)
theorem dX2_isWord_22 : decode cX2_isWord 22 = .ok (.aload_n 1, 1) := dk_43 (dk_at dksX2_isWord_0 22 rfl rfl)
theorem dX2_isWord_23 : decode cX2_isWord 23 = .ok (.invokestatic 141, 3) := dk_184 0 141 (dk_at dksX2_isWord_1 0 rfl rfl)
theorem dX2_isWord_26 : decode cX2_isWord 26 = .ok (.lcmp, 1) := dk_148 (dk_at dksX2_isWord_1 3 rfl rfl)
theorem dX2_isWord_27 : decode cX2_isWord 27 = .ok (.ifCond .ne 7, 3) := dk_154 0 7 (dk_at dksX2_isWord_1 4 rfl rfl)
theorem dX2_isWord_30 : decode cX2_isWord 30 = .ok (.iconst 1, 1) := dk_4 (dk_at dksX2_isWord_1 7 rfl rfl)
theorem dX2_isWord_31 : decode cX2_isWord 31 = .ok (.goto 4, 3) := dk_167 0 4 (dk_at dksX2_isWord_1 8 rfl rfl)
theorem dX2_isWord_34 : decode cX2_isWord 34 = .ok (.iconst 0, 1) := dk_3 (dk_at dksX2_isWord_1 11 rfl rfl)
theorem dX2_isWord_35 : decode cX2_isWord 35 = .ok (.ireturn, 1) := dk_172 (dk_at dksX2_isWord_1 12 rfl rfl)
def dkwX2_word_1 : List UInt8 := [20, 0, 115, 101, 64, 132, 3, 1, 167, 255, 228, 31, 173]
abbrev dktX2_word_1 : List UInt8 := dkwX2_word_1 ++ []
def dkwX2_word_0 : List UInt8 := [9, 64, 3, 62, 29, 42, 182, 0, 105, 162, 0, 26, 20, 0, 109, 31, 105, 42, 29, 182, 0, 111, 133, 97]
abbrev dktX2_word_0 : List UInt8 := dkwX2_word_0 ++ dktX2_word_1
theorem dksX2_word_0 : cX2_word.data.toList.drop 0 = dktX2_word_0 := by decide +kernel
theorem dksX2_word_1 : cX2_word.data.toList.drop 24 = dktX2_word_1 := dk_seg dksX2_word_0 24 rfl rfl
theorem dX2_word_0 : decode cX2_word 0 = .ok (.lconst 0, 1) := dk_9 (dk_at dksX2_word_0 0 rfl rfl)
theorem dX2_word_1 : decode cX2_word 1 = .ok (.lstore_n 1, 1) := dk_64 (dk_at dksX2_word_0 1 rfl rfl)
theorem dX2_word_2 : decode cX2_word 2 = .ok (.iconst 0, 1) := dk_3 (dk_at dksX2_word_0 2 rfl rfl)
theorem dX2_word_3 : decode cX2_word 3 = .ok (.istore_n 3, 1) := dk_62 (dk_at dksX2_word_0 3 rfl rfl)
theorem dX2_word_4 : decode cX2_word 4 = .ok (.iload_n 3, 1) := dk_29 (dk_at dksX2_word_0 4 rfl rfl)
theorem dX2_word_5 : decode cX2_word 5 = .ok (.aload_n 0, 1) := dk_42 (dk_at dksX2_word_0 5 rfl rfl)
theorem dX2_word_6 : decode cX2_word 6 = .ok (.invokevirtual 105, 3) := dk_182 0 105 (dk_at dksX2_word_0 6 rfl rfl)
theorem dX2_word_9 : decode cX2_word 9 = .ok (.if_icmp .ge 26, 3) := dk_162 0 26 (dk_at dksX2_word_0 9 rfl rfl)
theorem dX2_word_12 : decode cX2_word 12 = .ok (.ldc2_w 109, 3) := dk_20 0 109 (dk_at dksX2_word_0 12 rfl rfl)
theorem dX2_word_15 : decode cX2_word 15 = .ok (.lload_n 1, 1) := dk_31 (dk_at dksX2_word_0 15 rfl rfl)
theorem dX2_word_16 : decode cX2_word 16 = .ok (.lmul, 1) := dk_105 (dk_at dksX2_word_0 16 rfl rfl)
theorem dX2_word_17 : decode cX2_word 17 = .ok (.aload_n 0, 1) := dk_42 (dk_at dksX2_word_0 17 rfl rfl)
theorem dX2_word_18 : decode cX2_word 18 = .ok (.iload_n 3, 1) := dk_29 (dk_at dksX2_word_0 18 rfl rfl)
theorem dX2_word_19 : decode cX2_word 19 = .ok (.invokevirtual 111, 3) := dk_182 0 111 (dk_at dksX2_word_0 19 rfl rfl)
theorem dX2_word_22 : decode cX2_word 22 = .ok (.i2l, 1) := dk_133 (dk_at dksX2_word_0 22 rfl rfl)
theorem dX2_word_23 : decode cX2_word 23 = .ok (.ladd, 1) := dk_97 (dk_at dksX2_word_0 23 rfl rfl)
theorem dX2_word_24 : decode cX2_word 24 = .ok (.ldc2_w 115, 3) := dk_20 0 115 (dk_at dksX2_word_1 0 rfl rfl)
theorem dX2_word_27 : decode cX2_word 27 = .ok (.lsub, 1) := dk_101 (dk_at dksX2_word_1 3 rfl rfl)
theorem dX2_word_28 : decode cX2_word 28 = .ok (.lstore_n 1, 1) := dk_64 (dk_at dksX2_word_1 4 rfl rfl)
theorem dX2_word_29 : decode cX2_word 29 = .ok (.iinc 3 1, 3) := dk_132 3 1 (dk_at dksX2_word_1 5 rfl rfl)
theorem dX2_word_32 : decode cX2_word 32 = .ok (.goto (-28), 3) := dk_167 255 228 (dk_at dksX2_word_1 8 rfl rfl)
theorem dX2_word_35 : decode cX2_word 35 = .ok (.lload_n 1, 1) := dk_31 (dk_at dksX2_word_1 11 rfl rfl)
theorem dX2_word_36 : decode cX2_word 36 = .ok (.lreturn, 1) := dk_173 (dk_at dksX2_word_1 12 rfl rfl)
def dkwX2_bush_2 : List UInt8 := [177]
abbrev dktX2_bush_2 : List UInt8 := dkwX2_bush_2 ++ []
def dkwX2_bush_1 : List UInt8 := [180, 0, 134, 4, 100, 181, 0, 134, 42, 6, 182, 0, 155, 191, 42, 180, 0, 169, 180, 0, 231, 27, 4, 84]
abbrev dktX2_bush_1 : List UInt8 := dkwX2_bush_1 ++ dktX2_bush_2
def dkwX2_bush_0 : List UInt8 := [42, 18, 42, 3, 16, 35, 182, 0, 228, 60, 42, 180, 0, 169, 180, 0, 231, 27, 51, 153, 0, 19, 42, 89]
abbrev dktX2_bush_0 : List UInt8 := dkwX2_bush_0 ++ dktX2_bush_1
theorem dksX2_bush_0 : cX2_bush.data.toList.drop 0 = dktX2_bush_0 := by decide +kernel
theorem dksX2_bush_1 : cX2_bush.data.toList.drop 24 = dktX2_bush_1 := dk_seg dksX2_bush_0 24 rfl rfl
theorem dksX2_bush_2 : cX2_bush.data.toList.drop 48 = dktX2_bush_2 := dk_seg dksX2_bush_1 24 rfl rfl
theorem dX2_bush_0 : decode cX2_bush 0 = .ok (.aload_n 0, 1) := dk_42 (dk_at dksX2_bush_0 0 rfl rfl)
theorem dX2_bush_1 : decode cX2_bush 1 = .ok (.ldc 42, 2) := dk_18 42 (dk_at dksX2_bush_0 1 rfl rfl)
theorem dX2_bush_3 : decode cX2_bush 3 = .ok (.iconst 0, 1) := dk_3 (dk_at dksX2_bush_0 3 rfl rfl)
theorem dX2_bush_4 : decode cX2_bush 4 = .ok (.bipush 35, 2) := dk_16 35 (dk_at dksX2_bush_0 4 rfl rfl)
theorem dX2_bush_6 : decode cX2_bush 6 = .ok (.invokevirtual 228, 3) := dk_182 0 228 (dk_at dksX2_bush_0 6 rfl rfl)
theorem dX2_bush_9 : decode cX2_bush 9 = .ok (.istore_n 1, 1) := dk_60 (dk_at dksX2_bush_0 9 rfl rfl)
theorem dX2_bush_10 : decode cX2_bush 10 = .ok (.aload_n 0, 1) := dk_42 (dk_at dksX2_bush_0 10 rfl rfl)
theorem dX2_bush_11 : decode cX2_bush 11 = .ok (.getfield 169, 3) := dk_180 0 169 (dk_at dksX2_bush_0 11 rfl rfl)
theorem dX2_bush_14 : decode cX2_bush 14 = .ok (.getfield 231, 3) := dk_180 0 231 (dk_at dksX2_bush_0 14 rfl rfl)
theorem dX2_bush_17 : decode cX2_bush 17 = .ok (.iload_n 1, 1) := dk_27 (dk_at dksX2_bush_0 17 rfl rfl)
theorem dX2_bush_18 : decode cX2_bush 18 = .ok (.baload, 1) := dk_51 (dk_at dksX2_bush_0 18 rfl rfl)
theorem dX2_bush_19 : decode cX2_bush 19 = .ok (.ifCond .eq 19, 3) := dk_153 0 19 (dk_at dksX2_bush_0 19 rfl rfl)
theorem dX2_bush_22 : decode cX2_bush 22 = .ok (.aload_n 0, 1) := dk_42 (dk_at dksX2_bush_0 22 rfl rfl)
theorem dX2_bush_23 : decode cX2_bush 23 = .ok (.dup, 1) := dk_89 (dk_at dksX2_bush_0 23 rfl rfl)
theorem dX2_bush_24 : decode cX2_bush 24 = .ok (.getfield 134, 3) := dk_180 0 134 (dk_at dksX2_bush_1 0 rfl rfl)
theorem dX2_bush_27 : decode cX2_bush 27 = .ok (.iconst 1, 1) := dk_4 (dk_at dksX2_bush_1 3 rfl rfl)
theorem dX2_bush_28 : decode cX2_bush 28 = .ok (.isub, 1) := dk_100 (dk_at dksX2_bush_1 4 rfl rfl)
theorem dX2_bush_29 : decode cX2_bush 29 = .ok (.putfield 134, 3) := dk_181 0 134 (dk_at dksX2_bush_1 5 rfl rfl)
theorem dX2_bush_32 : decode cX2_bush 32 = .ok (.aload_n 0, 1) := dk_42 (dk_at dksX2_bush_1 8 rfl rfl)
theorem dX2_bush_33 : decode cX2_bush 33 = .ok (.iconst 3, 1) := dk_6 (dk_at dksX2_bush_1 9 rfl rfl)
theorem dX2_bush_34 : decode cX2_bush 34 = .ok (.invokevirtual 155, 3) := dk_182 0 155 (dk_at dksX2_bush_1 10 rfl rfl)
theorem dX2_bush_37 : decode cX2_bush 37 = .ok (.athrow, 1) := dk_191 (dk_at dksX2_bush_1 13 rfl rfl)
theorem dX2_bush_38 : decode cX2_bush 38 = .ok (.aload_n 0, 1) := dk_42 (dk_at dksX2_bush_1 14 rfl rfl)
theorem dX2_bush_39 : decode cX2_bush 39 = .ok (.getfield 169, 3) := dk_180 0 169 (dk_at dksX2_bush_1 15 rfl rfl)
theorem dX2_bush_42 : decode cX2_bush 42 = .ok (.getfield 231, 3) := dk_180 0 231 (dk_at dksX2_bush_1 18 rfl rfl)
theorem dX2_bush_45 : decode cX2_bush 45 = .ok (.iload_n 1, 1) := dk_27 (dk_at dksX2_bush_1 21 rfl rfl)
theorem dX2_bush_46 : decode cX2_bush 46 = .ok (.iconst 1, 1) := dk_4 (dk_at dksX2_bush_1 22 rfl rfl)
theorem dX2_bush_47 : decode cX2_bush 47 = .ok (.bastore, 1) := dk_84 (dk_at dksX2_bush_1 23 rfl rfl)
theorem dX2_bush_48 : decode cX2_bush 48 = .ok (.return_, 1) := dk_177 (dk_at dksX2_bush_2 0 rfl rfl)
def dkwX2_number_0 : List UInt8 := [42, 43, 182, 0, 188, 42, 28, 29, 182, 0, 192, 172]
abbrev dktX2_number_0 : List UInt8 := dkwX2_number_0 ++ []
theorem dksX2_number_0 : cX2_number.data.toList.drop 0 = dktX2_number_0 := by decide +kernel
theorem dX2_number_0 : decode cX2_number 0 = .ok (.aload_n 0, 1) := dk_42 (dk_at dksX2_number_0 0 rfl rfl)
theorem dX2_number_1 : decode cX2_number 1 = .ok (.aload_n 1, 1) := dk_43 (dk_at dksX2_number_0 1 rfl rfl)
theorem dX2_number_2 : decode cX2_number 2 = .ok (.invokevirtual 188, 3) := dk_182 0 188 (dk_at dksX2_number_0 2 rfl rfl)
theorem dX2_number_5 : decode cX2_number 5 = .ok (.aload_n 0, 1) := dk_42 (dk_at dksX2_number_0 5 rfl rfl)
theorem dX2_number_6 : decode cX2_number 6 = .ok (.iload_n 2, 1) := dk_28 (dk_at dksX2_number_0 6 rfl rfl)
theorem dX2_number_7 : decode cX2_number 7 = .ok (.iload_n 3, 1) := dk_29 (dk_at dksX2_number_0 7 rfl rfl)
theorem dX2_number_8 : decode cX2_number 8 = .ok (.invokevirtual 192, 3) := dk_182 0 192 (dk_at dksX2_number_0 8 rfl rfl)
theorem dX2_number_11 : decode cX2_number 11 = .ok (.ireturn, 1) := dk_172 (dk_at dksX2_number_0 11 rfl rfl)
def dkwX2_takeWord_0 : List UInt8 := [42, 43, 182, 1, 44, 154, 0, 9, 42, 4, 182, 0, 155, 191, 177]
abbrev dktX2_takeWord_0 : List UInt8 := dkwX2_takeWord_0 ++ []
theorem dksX2_takeWord_0 : cX2_takeWord.data.toList.drop 0 = dktX2_takeWord_0 := by decide +kernel
theorem dX2_takeWord_0 : decode cX2_takeWord 0 = .ok (.aload_n 0, 1) := dk_42 (dk_at dksX2_takeWord_0 0 rfl rfl)
theorem dX2_takeWord_1 : decode cX2_takeWord 1 = .ok (.aload_n 1, 1) := dk_43 (dk_at dksX2_takeWord_0 1 rfl rfl)
theorem dX2_takeWord_2 : decode cX2_takeWord 2 = .ok (.invokevirtual 300, 3) := dk_182 1 44 (dk_at dksX2_takeWord_0 2 rfl rfl)
theorem dX2_takeWord_5 : decode cX2_takeWord 5 = .ok (.ifCond .ne 9, 3) := dk_154 0 9 (dk_at dksX2_takeWord_0 5 rfl rfl)
theorem dX2_takeWord_8 : decode cX2_takeWord 8 = .ok (.aload_n 0, 1) := dk_42 (dk_at dksX2_takeWord_0 8 rfl rfl)
theorem dX2_takeWord_9 : decode cX2_takeWord 9 = .ok (.iconst 1, 1) := dk_4 (dk_at dksX2_takeWord_0 9 rfl rfl)
theorem dX2_takeWord_10 : decode cX2_takeWord 10 = .ok (.invokevirtual 155, 3) := dk_182 0 155 (dk_at dksX2_takeWord_0 10 rfl rfl)
theorem dX2_takeWord_13 : decode cX2_takeWord 13 = .ok (.athrow, 1) := dk_191 (dk_at dksX2_takeWord_0 13 rfl rfl)
theorem dX2_takeWord_14 : decode cX2_takeWord 14 = .ok (.return_, 1) := dk_177 (dk_at dksX2_takeWord_0 14 rfl rfl)
def dkwX2_hasWord_0 : List UInt8 := [42, 43, 182, 0, 145, 61, 28, 153, 0, 13, 42, 89, 180, 0, 134, 4, 96, 181, 0, 134, 28, 172]
abbrev dktX2_hasWord_0 : List UInt8 := dkwX2_hasWord_0 ++ []
theorem dksX2_hasWord_0 : cX2_hasWord.data.toList.drop 0 = dktX2_hasWord_0 := by decide +kernel
theorem dX2_hasWord_0 : decode cX2_hasWord 0 = .ok (.aload_n 0, 1) := dk_42 (dk_at dksX2_hasWord_0 0 rfl rfl)
theorem dX2_hasWord_1 : decode cX2_hasWord 1 = .ok (.aload_n 1, 1) := dk_43 (dk_at dksX2_hasWord_0 1 rfl rfl)
theorem dX2_hasWord_2 : decode cX2_hasWord 2 = .ok (.invokevirtual 145, 3) := dk_182 0 145 (dk_at dksX2_hasWord_0 2 rfl rfl)
theorem dX2_hasWord_5 : decode cX2_hasWord 5 = .ok (.istore_n 2, 1) := dk_61 (dk_at dksX2_hasWord_0 5 rfl rfl)
theorem dX2_hasWord_6 : decode cX2_hasWord 6 = .ok (.iload_n 2, 1) := dk_28 (dk_at dksX2_hasWord_0 6 rfl rfl)
theorem dX2_hasWord_7 : decode cX2_hasWord 7 = .ok (.ifCond .eq 13, 3) := dk_153 0 13 (dk_at dksX2_hasWord_0 7 rfl rfl)
theorem dX2_hasWord_10 : decode cX2_hasWord 10 = .ok (.aload_n 0, 1) := dk_42 (dk_at dksX2_hasWord_0 10 rfl rfl)
theorem dX2_hasWord_11 : decode cX2_hasWord 11 = .ok (.dup, 1) := dk_89 (dk_at dksX2_hasWord_0 11 rfl rfl)
theorem dX2_hasWord_12 : decode cX2_hasWord 12 = .ok (.getfield 134, 3) := dk_180 0 134 (dk_at dksX2_hasWord_0 12 rfl rfl)
theorem dX2_hasWord_15 : decode cX2_hasWord 15 = .ok (.iconst 1, 1) := dk_4 (dk_at dksX2_hasWord_0 15 rfl rfl)
theorem dX2_hasWord_16 : decode cX2_hasWord 16 = .ok (.iadd, 1) := dk_96 (dk_at dksX2_hasWord_0 16 rfl rfl)
theorem dX2_hasWord_17 : decode cX2_hasWord 17 = .ok (.putfield 134, 3) := dk_181 0 134 (dk_at dksX2_hasWord_0 17 rfl rfl)
theorem dX2_hasWord_20 : decode cX2_hasWord 20 = .ok (.iload_n 2, 1) := dk_28 (dk_at dksX2_hasWord_0 20 rfl rfl)
theorem dX2_hasWord_21 : decode cX2_hasWord 21 = .ok (.ireturn, 1) := dk_172 (dk_at dksX2_hasWord_0 21 rfl rfl)
def dkwX2_wrong_0 : List UInt8 := [187, 0, 136, 89, 27, 16, 16, 42, 180, 0, 92, 42, 180, 0, 134, 46, 104, 96, 183, 0, 138, 176]
abbrev dktX2_wrong_0 : List UInt8 := dkwX2_wrong_0 ++ []
theorem dksX2_wrong_0 : cX2_wrong.data.toList.drop 0 = dktX2_wrong_0 := by decide +kernel
theorem dX2_wrong_0 : decode cX2_wrong 0 = .ok (.new 136, 3) := dk_187 0 136 (dk_at dksX2_wrong_0 0 rfl rfl)
theorem dX2_wrong_3 : decode cX2_wrong 3 = .ok (.dup, 1) := dk_89 (dk_at dksX2_wrong_0 3 rfl rfl)
theorem dX2_wrong_4 : decode cX2_wrong 4 = .ok (.iload_n 1, 1) := dk_27 (dk_at dksX2_wrong_0 4 rfl rfl)
theorem dX2_wrong_5 : decode cX2_wrong 5 = .ok (.bipush 16, 2) := dk_16 16 (dk_at dksX2_wrong_0 5 rfl rfl)
theorem dX2_wrong_7 : decode cX2_wrong 7 = .ok (.aload_n 0, 1) := dk_42 (dk_at dksX2_wrong_0 7 rfl rfl)
theorem dX2_wrong_8 : decode cX2_wrong 8 = .ok (.getfield 92, 3) := dk_180 0 92 (dk_at dksX2_wrong_0 8 rfl rfl)
theorem dX2_wrong_11 : decode cX2_wrong 11 = .ok (.aload_n 0, 1) := dk_42 (dk_at dksX2_wrong_0 11 rfl rfl)
theorem dX2_wrong_12 : decode cX2_wrong 12 = .ok (.getfield 134, 3) := dk_180 0 134 (dk_at dksX2_wrong_0 12 rfl rfl)
theorem dX2_wrong_15 : decode cX2_wrong 15 = .ok (.iaload, 1) := dk_46 (dk_at dksX2_wrong_0 15 rfl rfl)
theorem dX2_wrong_16 : decode cX2_wrong 16 = .ok (.imul, 1) := dk_104 (dk_at dksX2_wrong_0 16 rfl rfl)
theorem dX2_wrong_17 : decode cX2_wrong 17 = .ok (.iadd, 1) := dk_96 (dk_at dksX2_wrong_0 17 rfl rfl)
theorem dX2_wrong_18 : decode cX2_wrong 18 = .ok (.invokespecial 138, 3) := dk_183 0 138 (dk_at dksX2_wrong_0 18 rfl rfl)
theorem dX2_wrong_21 : decode cX2_wrong 21 = .ok (.areturn, 1) := dk_176 (dk_at dksX2_wrong_0 21 rfl rfl)
def dkwX2_number_2_3 : List UInt8 := [180, 0, 134, 4, 100, 47, 136, 172]
abbrev dktX2_number_2_3 : List UInt8 := dkwX2_number_2_3 ++ []
def dkwX2_number_2_2 : List UInt8 := [158, 0, 9, 42, 7, 182, 0, 155, 191, 42, 89, 180, 0, 134, 4, 96, 181, 0, 134, 42, 180, 0, 88, 42]
abbrev dktX2_number_2_2 : List UInt8 := dkwX2_number_2_2 ++ dktX2_number_2_3
def dkwX2_number_2_1 : List UInt8 := [180, 0, 134, 47, 27, 133, 148, 155, 0, 18, 42, 180, 0, 88, 42, 180, 0, 134, 47, 28, 133, 148]
abbrev dktX2_number_2_1 : List UInt8 := dkwX2_number_2_1 ++ dktX2_number_2_2
def dkwX2_number_2_0 : List UInt8 := [42, 180, 0, 85, 42, 180, 0, 134, 46, 5, 159, 0, 9, 42, 4, 182, 0, 155, 191, 42, 180, 0, 88, 42]
abbrev dktX2_number_2_0 : List UInt8 := dkwX2_number_2_0 ++ dktX2_number_2_1
theorem dksX2_number_2_0 : cX2_number_2.data.toList.drop 0 = dktX2_number_2_0 := by decide +kernel
theorem dksX2_number_2_1 : cX2_number_2.data.toList.drop 24 = dktX2_number_2_1 := dk_seg dksX2_number_2_0 24 rfl rfl
theorem dksX2_number_2_2 : cX2_number_2.data.toList.drop 46 = dktX2_number_2_2 := dk_seg dksX2_number_2_1 22 rfl rfl
theorem dksX2_number_2_3 : cX2_number_2.data.toList.drop 70 = dktX2_number_2_3 := dk_seg dksX2_number_2_2 24 rfl rfl
theorem dX2_number_2_0 : decode cX2_number_2 0 = .ok (.aload_n 0, 1) := dk_42 (dk_at dksX2_number_2_0 0 rfl rfl)
theorem dX2_number_2_1 : decode cX2_number_2 1 = .ok (.getfield 85, 3) := dk_180 0 85 (dk_at dksX2_number_2_0 1 rfl rfl)
theorem dX2_number_2_4 : decode cX2_number_2 4 = .ok (.aload_n 0, 1) := dk_42 (dk_at dksX2_number_2_0 4 rfl rfl)
theorem dX2_number_2_5 : decode cX2_number_2 5 = .ok (.getfield 134, 3) := dk_180 0 134 (dk_at dksX2_number_2_0 5 rfl rfl)
theorem dX2_number_2_8 : decode cX2_number_2 8 = .ok (.iaload, 1) := dk_46 (dk_at dksX2_number_2_0 8 rfl rfl)
theorem dX2_number_2_9 : decode cX2_number_2 9 = .ok (.iconst 2, 1) := dk_5 (dk_at dksX2_number_2_0 9 rfl rfl)
theorem dX2_number_2_10 : decode cX2_number_2 10 = .ok (.if_icmp .eq 9, 3) := dk_159 0 9 (dk_at dksX2_number_2_0 10 rfl rfl)
theorem dX2_number_2_13 : decode cX2_number_2 13 = .ok (.aload_n 0, 1) := dk_42 (dk_at dksX2_number_2_0 13 rfl rfl)
theorem dX2_number_2_14 : decode cX2_number_2 14 = .ok (.iconst 1, 1) := dk_4 (dk_at dksX2_number_2_0 14 rfl rfl)
theorem dX2_number_2_15 : decode cX2_number_2 15 = .ok (.invokevirtual 155, 3) := dk_182 0 155 (dk_at dksX2_number_2_0 15 rfl rfl)
theorem dX2_number_2_18 : decode cX2_number_2 18 = .ok (.athrow, 1) := dk_191 (dk_at dksX2_number_2_0 18 rfl rfl)
theorem dX2_number_2_19 : decode cX2_number_2 19 = .ok (.aload_n 0, 1) := dk_42 (dk_at dksX2_number_2_0 19 rfl rfl)
theorem dX2_number_2_20 : decode cX2_number_2 20 = .ok (.getfield 88, 3) := dk_180 0 88 (dk_at dksX2_number_2_0 20 rfl rfl)
theorem dX2_number_2_23 : decode cX2_number_2 23 = .ok (.aload_n 0, 1) := dk_42 (dk_at dksX2_number_2_0 23 rfl rfl)
theorem dX2_number_2_24 : decode cX2_number_2 24 = .ok (.getfield 134, 3) := dk_180 0 134 (dk_at dksX2_number_2_1 0 rfl rfl)
theorem dX2_number_2_27 : decode cX2_number_2 27 = .ok (.laload, 1) := dk_47 (dk_at dksX2_number_2_1 3 rfl rfl)
theorem dX2_number_2_28 : decode cX2_number_2 28 = .ok (.iload_n 1, 1) := dk_27 (dk_at dksX2_number_2_1 4 rfl rfl)
theorem dX2_number_2_29 : decode cX2_number_2 29 = .ok (.i2l, 1) := dk_133 (dk_at dksX2_number_2_1 5 rfl rfl)
theorem dX2_number_2_30 : decode cX2_number_2 30 = .ok (.lcmp, 1) := dk_148 (dk_at dksX2_number_2_1 6 rfl rfl)
theorem dX2_number_2_31 : decode cX2_number_2 31 = .ok (.ifCond .lt 18, 3) := dk_155 0 18 (dk_at dksX2_number_2_1 7 rfl rfl)
theorem dX2_number_2_34 : decode cX2_number_2 34 = .ok (.aload_n 0, 1) := dk_42 (dk_at dksX2_number_2_1 10 rfl rfl)
theorem dX2_number_2_35 : decode cX2_number_2 35 = .ok (.getfield 88, 3) := dk_180 0 88 (dk_at dksX2_number_2_1 11 rfl rfl)
theorem dX2_number_2_38 : decode cX2_number_2 38 = .ok (.aload_n 0, 1) := dk_42 (dk_at dksX2_number_2_1 14 rfl rfl)
theorem dX2_number_2_39 : decode cX2_number_2 39 = .ok (.getfield 134, 3) := dk_180 0 134 (dk_at dksX2_number_2_1 15 rfl rfl)
theorem dX2_number_2_42 : decode cX2_number_2 42 = .ok (.laload, 1) := dk_47 (dk_at dksX2_number_2_1 18 rfl rfl)
theorem dX2_number_2_43 : decode cX2_number_2 43 = .ok (.iload_n 2, 1) := dk_28 (dk_at dksX2_number_2_1 19 rfl rfl)
theorem dX2_number_2_44 : decode cX2_number_2 44 = .ok (.i2l, 1) := dk_133 (dk_at dksX2_number_2_1 20 rfl rfl)
theorem dX2_number_2_45 : decode cX2_number_2 45 = .ok (.lcmp, 1) := dk_148 (dk_at dksX2_number_2_1 21 rfl rfl)
theorem dX2_number_2_46 : decode cX2_number_2 46 = .ok (.ifCond .le 9, 3) := dk_158 0 9 (dk_at dksX2_number_2_2 0 rfl rfl)
theorem dX2_number_2_49 : decode cX2_number_2 49 = .ok (.aload_n 0, 1) := dk_42 (dk_at dksX2_number_2_2 3 rfl rfl)
theorem dX2_number_2_50 : decode cX2_number_2 50 = .ok (.iconst 4, 1) := dk_7 (dk_at dksX2_number_2_2 4 rfl rfl)
theorem dX2_number_2_51 : decode cX2_number_2 51 = .ok (.invokevirtual 155, 3) := dk_182 0 155 (dk_at dksX2_number_2_2 5 rfl rfl)
theorem dX2_number_2_54 : decode cX2_number_2 54 = .ok (.athrow, 1) := dk_191 (dk_at dksX2_number_2_2 8 rfl rfl)
theorem dX2_number_2_55 : decode cX2_number_2 55 = .ok (.aload_n 0, 1) := dk_42 (dk_at dksX2_number_2_2 9 rfl rfl)
theorem dX2_number_2_56 : decode cX2_number_2 56 = .ok (.dup, 1) := dk_89 (dk_at dksX2_number_2_2 10 rfl rfl)
theorem dX2_number_2_57 : decode cX2_number_2 57 = .ok (.getfield 134, 3) := dk_180 0 134 (dk_at dksX2_number_2_2 11 rfl rfl)
theorem dX2_number_2_60 : decode cX2_number_2 60 = .ok (.iconst 1, 1) := dk_4 (dk_at dksX2_number_2_2 14 rfl rfl)
theorem dX2_number_2_61 : decode cX2_number_2 61 = .ok (.iadd, 1) := dk_96 (dk_at dksX2_number_2_2 15 rfl rfl)
theorem dX2_number_2_62 : decode cX2_number_2 62 = .ok (.putfield 134, 3) := dk_181 0 134 (dk_at dksX2_number_2_2 16 rfl rfl)
theorem dX2_number_2_65 : decode cX2_number_2 65 = .ok (.aload_n 0, 1) := dk_42 (dk_at dksX2_number_2_2 19 rfl rfl)
theorem dX2_number_2_66 : decode cX2_number_2 66 = .ok (.getfield 88, 3) := dk_180 0 88 (dk_at dksX2_number_2_2 20 rfl rfl)
theorem dX2_number_2_69 : decode cX2_number_2 69 = .ok (.aload_n 0, 1) := dk_42 (dk_at dksX2_number_2_2 23 rfl rfl)
theorem dX2_number_2_70 : decode cX2_number_2 70 = .ok (.getfield 134, 3) := dk_180 0 134 (dk_at dksX2_number_2_3 0 rfl rfl)
theorem dX2_number_2_73 : decode cX2_number_2 73 = .ok (.iconst 1, 1) := dk_4 (dk_at dksX2_number_2_3 3 rfl rfl)
theorem dX2_number_2_74 : decode cX2_number_2 74 = .ok (.isub, 1) := dk_100 (dk_at dksX2_number_2_3 4 rfl rfl)
theorem dX2_number_2_75 : decode cX2_number_2 75 = .ok (.laload, 1) := dk_47 (dk_at dksX2_number_2_3 5 rfl rfl)
theorem dX2_number_2_76 : decode cX2_number_2 76 = .ok (.l2i, 1) := dk_136 (dk_at dksX2_number_2_3 6 rfl rfl)
theorem dX2_number_2_77 : decode cX2_number_2 77 = .ok (.ireturn, 1) := dk_172 (dk_at dksX2_number_2_3 7 rfl rfl)
def dkwX2_person_5 : List UInt8 := [87, 177]
abbrev dktX2_person_5 : List UInt8 := dkwX2_person_5 ++ []
def dkwX2_person_4 : List UInt8 := [180, 0, 169, 180, 0, 235, 28, 29, 21, 4, 21, 5, 42, 16, 8, 182, 0, 245, 184, 0, 249, 182, 0, 214]
abbrev dktX2_person_4 : List UInt8 := dkwX2_person_4 ++ dktX2_person_5
def dkwX2_person_3 : List UInt8 := [182, 0, 228, 54, 4, 42, 18, 50, 4, 16, 9, 182, 0, 228, 54, 5, 42, 18, 52, 182, 0, 188, 42]
abbrev dktX2_person_3 : List UInt8 := dkwX2_person_3 ++ dktX2_person_4
def dkwX2_person_2 : List UInt8 := [89, 180, 0, 134, 4, 96, 181, 0, 134, 42, 18, 46, 3, 16, 35, 182, 0, 228, 62, 42, 18, 48, 3, 7]
abbrev dktX2_person_2 : List UInt8 := dkwX2_person_2 ++ dktX2_person_3
def dkwX2_person_1 : List UInt8 := [182, 0, 241, 42, 42, 180, 0, 35, 182, 0, 159, 61, 28, 2, 160, 0, 9, 42, 4, 182, 0, 155, 191, 42]
abbrev dktX2_person_1 : List UInt8 := dkwX2_person_1 ++ dktX2_person_2
def dkwX2_person_0 : List UInt8 := [42, 180, 0, 169, 180, 0, 235, 182, 0, 238, 60, 42, 27, 8, 160, 0, 7, 4, 167, 0, 4, 3, 27]
abbrev dktX2_person_0 : List UInt8 := dkwX2_person_0 ++ dktX2_person_1
theorem dksX2_person_0 : cX2_person.data.toList.drop 0 = dktX2_person_0 := by decide +kernel
theorem dksX2_person_1 : cX2_person.data.toList.drop 23 = dktX2_person_1 := dk_seg dksX2_person_0 23 rfl rfl
theorem dksX2_person_2 : cX2_person.data.toList.drop 47 = dktX2_person_2 := dk_seg dksX2_person_1 24 rfl rfl
theorem dksX2_person_3 : cX2_person.data.toList.drop 71 = dktX2_person_3 := dk_seg dksX2_person_2 24 rfl rfl
theorem dksX2_person_4 : cX2_person.data.toList.drop 94 = dktX2_person_4 := dk_seg dksX2_person_3 23 rfl rfl
theorem dksX2_person_5 : cX2_person.data.toList.drop 118 = dktX2_person_5 := dk_seg dksX2_person_4 24 rfl rfl
theorem dX2_person_0 : decode cX2_person 0 = .ok (.aload_n 0, 1) := dk_42 (dk_at dksX2_person_0 0 rfl rfl)
theorem dX2_person_1 : decode cX2_person 1 = .ok (.getfield 169, 3) := dk_180 0 169 (dk_at dksX2_person_0 1 rfl rfl)
theorem dX2_person_4 : decode cX2_person 4 = .ok (.getfield 235, 3) := dk_180 0 235 (dk_at dksX2_person_0 4 rfl rfl)
theorem dX2_person_7 : decode cX2_person 7 = .ok (.invokevirtual 238, 3) := dk_182 0 238 (dk_at dksX2_person_0 7 rfl rfl)
theorem dX2_person_10 : decode cX2_person 10 = .ok (.istore_n 1, 1) := dk_60 (dk_at dksX2_person_0 10 rfl rfl)
theorem dX2_person_11 : decode cX2_person 11 = .ok (.aload_n 0, 1) := dk_42 (dk_at dksX2_person_0 11 rfl rfl)
theorem dX2_person_12 : decode cX2_person 12 = .ok (.iload_n 1, 1) := dk_27 (dk_at dksX2_person_0 12 rfl rfl)
theorem dX2_person_13 : decode cX2_person 13 = .ok (.iconst 5, 1) := dk_8 (dk_at dksX2_person_0 13 rfl rfl)
theorem dX2_person_14 : decode cX2_person 14 = .ok (.if_icmp .ne 7, 3) := dk_160 0 7 (dk_at dksX2_person_0 14 rfl rfl)
theorem dX2_person_17 : decode cX2_person 17 = .ok (.iconst 1, 1) := dk_4 (dk_at dksX2_person_0 17 rfl rfl)
theorem dX2_person_18 : decode cX2_person 18 = .ok (.goto 4, 3) := dk_167 0 4 (dk_at dksX2_person_0 18 rfl rfl)
theorem dX2_person_21 : decode cX2_person 21 = .ok (.iconst 0, 1) := dk_3 (dk_at dksX2_person_0 21 rfl rfl)
theorem dX2_person_22 : decode cX2_person 22 = .ok (.iload_n 1, 1) := dk_27 (dk_at dksX2_person_0 22 rfl rfl)
theorem dX2_person_23 : decode cX2_person 23 = .ok (.invokevirtual 241, 3) := dk_182 0 241 (dk_at dksX2_person_1 0 rfl rfl)
theorem dX2_person_26 : decode cX2_person 26 = .ok (.aload_n 0, 1) := dk_42 (dk_at dksX2_person_1 3 rfl rfl)
theorem dX2_person_27 : decode cX2_person 27 = .ok (.aload_n 0, 1) := dk_42 (dk_at dksX2_person_1 4 rfl rfl)
theorem dX2_person_28 : decode cX2_person 28 = .ok (.getfield 35, 3) := dk_180 0 35 (dk_at dksX2_person_1 5 rfl rfl)
theorem dX2_person_31 : decode cX2_person 31 = .ok (.invokevirtual 159, 3) := dk_182 0 159 (dk_at dksX2_person_1 8 rfl rfl)
theorem dX2_person_34 : decode cX2_person 34 = .ok (.istore_n 2, 1) := dk_61 (dk_at dksX2_person_1 11 rfl rfl)
theorem dX2_person_35 : decode cX2_person 35 = .ok (.iload_n 2, 1) := dk_28 (dk_at dksX2_person_1 12 rfl rfl)
theorem dX2_person_36 : decode cX2_person 36 = .ok (.iconst (-1), 1) := dk_2 (dk_at dksX2_person_1 13 rfl rfl)
theorem dX2_person_37 : decode cX2_person 37 = .ok (.if_icmp .ne 9, 3) := dk_160 0 9 (dk_at dksX2_person_1 14 rfl rfl)
theorem dX2_person_40 : decode cX2_person 40 = .ok (.aload_n 0, 1) := dk_42 (dk_at dksX2_person_1 17 rfl rfl)
theorem dX2_person_41 : decode cX2_person 41 = .ok (.iconst 1, 1) := dk_4 (dk_at dksX2_person_1 18 rfl rfl)
theorem dX2_person_42 : decode cX2_person 42 = .ok (.invokevirtual 155, 3) := dk_182 0 155 (dk_at dksX2_person_1 19 rfl rfl)
theorem dX2_person_45 : decode cX2_person 45 = .ok (.athrow, 1) := dk_191 (dk_at dksX2_person_1 22 rfl rfl)
theorem dX2_person_46 : decode cX2_person 46 = .ok (.aload_n 0, 1) := dk_42 (dk_at dksX2_person_1 23 rfl rfl)
theorem dX2_person_47 : decode cX2_person 47 = .ok (.dup, 1) := dk_89 (dk_at dksX2_person_2 0 rfl rfl)
theorem dX2_person_48 : decode cX2_person 48 = .ok (.getfield 134, 3) := dk_180 0 134 (dk_at dksX2_person_2 1 rfl rfl)
theorem dX2_person_51 : decode cX2_person 51 = .ok (.iconst 1, 1) := dk_4 (dk_at dksX2_person_2 4 rfl rfl)
theorem dX2_person_52 : decode cX2_person 52 = .ok (.iadd, 1) := dk_96 (dk_at dksX2_person_2 5 rfl rfl)
theorem dX2_person_53 : decode cX2_person 53 = .ok (.putfield 134, 3) := dk_181 0 134 (dk_at dksX2_person_2 6 rfl rfl)
theorem dX2_person_56 : decode cX2_person 56 = .ok (.aload_n 0, 1) := dk_42 (dk_at dksX2_person_2 9 rfl rfl)
theorem dX2_person_57 : decode cX2_person 57 = .ok (.ldc 46, 2) := dk_18 46 (dk_at dksX2_person_2 10 rfl rfl)
theorem dX2_person_59 : decode cX2_person 59 = .ok (.iconst 0, 1) := dk_3 (dk_at dksX2_person_2 12 rfl rfl)
theorem dX2_person_60 : decode cX2_person 60 = .ok (.bipush 35, 2) := dk_16 35 (dk_at dksX2_person_2 13 rfl rfl)
theorem dX2_person_62 : decode cX2_person 62 = .ok (.invokevirtual 228, 3) := dk_182 0 228 (dk_at dksX2_person_2 15 rfl rfl)
theorem dX2_person_65 : decode cX2_person 65 = .ok (.istore_n 3, 1) := dk_62 (dk_at dksX2_person_2 18 rfl rfl)
theorem dX2_person_66 : decode cX2_person 66 = .ok (.aload_n 0, 1) := dk_42 (dk_at dksX2_person_2 19 rfl rfl)
theorem dX2_person_67 : decode cX2_person 67 = .ok (.ldc 48, 2) := dk_18 48 (dk_at dksX2_person_2 20 rfl rfl)
theorem dX2_person_69 : decode cX2_person 69 = .ok (.iconst 0, 1) := dk_3 (dk_at dksX2_person_2 22 rfl rfl)
theorem dX2_person_70 : decode cX2_person 70 = .ok (.iconst 4, 1) := dk_7 (dk_at dksX2_person_2 23 rfl rfl)
theorem dX2_person_71 : decode cX2_person 71 = .ok (.invokevirtual 228, 3) := dk_182 0 228 (dk_at dksX2_person_3 0 rfl rfl)
theorem dX2_person_74 : decode cX2_person 74 = .ok (.istore 4, 2) := dk_54 4 (dk_at dksX2_person_3 3 rfl rfl)
theorem dX2_person_76 : decode cX2_person 76 = .ok (.aload_n 0, 1) := dk_42 (dk_at dksX2_person_3 5 rfl rfl)
theorem dX2_person_77 : decode cX2_person 77 = .ok (.ldc 50, 2) := dk_18 50 (dk_at dksX2_person_3 6 rfl rfl)
theorem dX2_person_79 : decode cX2_person 79 = .ok (.iconst 1, 1) := dk_4 (dk_at dksX2_person_3 8 rfl rfl)
theorem dX2_person_80 : decode cX2_person 80 = .ok (.bipush 9, 2) := dk_16 9 (dk_at dksX2_person_3 9 rfl rfl)
theorem dX2_person_82 : decode cX2_person 82 = .ok (.invokevirtual 228, 3) := dk_182 0 228 (dk_at dksX2_person_3 11 rfl rfl)
theorem dX2_person_85 : decode cX2_person 85 = .ok (.istore 5, 2) := dk_54 5 (dk_at dksX2_person_3 14 rfl rfl)
theorem dX2_person_87 : decode cX2_person 87 = .ok (.aload_n 0, 1) := dk_42 (dk_at dksX2_person_3 16 rfl rfl)
theorem dX2_person_88 : decode cX2_person 88 = .ok (.ldc 52, 2) := dk_18 52 (dk_at dksX2_person_3 17 rfl rfl)
theorem dX2_person_90 : decode cX2_person 90 = .ok (.invokevirtual 188, 3) := dk_182 0 188 (dk_at dksX2_person_3 19 rfl rfl)
theorem dX2_person_93 : decode cX2_person 93 = .ok (.aload_n 0, 1) := dk_42 (dk_at dksX2_person_3 22 rfl rfl)
theorem dX2_person_94 : decode cX2_person 94 = .ok (.getfield 169, 3) := dk_180 0 169 (dk_at dksX2_person_4 0 rfl rfl)
theorem dX2_person_97 : decode cX2_person 97 = .ok (.getfield 235, 3) := dk_180 0 235 (dk_at dksX2_person_4 3 rfl rfl)
theorem dX2_person_100 : decode cX2_person 100 = .ok (.iload_n 2, 1) := dk_28 (dk_at dksX2_person_4 6 rfl rfl)
theorem dX2_person_101 : decode cX2_person 101 = .ok (.iload_n 3, 1) := dk_29 (dk_at dksX2_person_4 7 rfl rfl)
theorem dX2_person_102 : decode cX2_person 102 = .ok (.iload 4, 2) := dk_21 4 (dk_at dksX2_person_4 8 rfl rfl)
theorem dX2_person_104 : decode cX2_person 104 = .ok (.iload 5, 2) := dk_21 5 (dk_at dksX2_person_4 10 rfl rfl)
theorem dX2_person_106 : decode cX2_person 106 = .ok (.aload_n 0, 1) := dk_42 (dk_at dksX2_person_4 12 rfl rfl)
theorem dX2_person_107 : decode cX2_person 107 = .ok (.bipush 8, 2) := dk_16 8 (dk_at dksX2_person_4 13 rfl rfl)
theorem dX2_person_109 : decode cX2_person 109 = .ok (.invokevirtual 245, 3) := dk_182 0 245 (dk_at dksX2_person_4 15 rfl rfl)
theorem dX2_person_112 : decode cX2_person 112 = .ok (.invokestatic 249, 3) := dk_184 0 249 (dk_at dksX2_person_4 18 rfl rfl)
theorem dX2_person_115 : decode cX2_person 115 = .ok (.invokevirtual 214, 3) := dk_182 0 214 (dk_at dksX2_person_4 21 rfl rfl)
theorem dX2_person_118 : decode cX2_person 118 = .ok (.pop, 1) := dk_87 (dk_at dksX2_person_5 0 rfl rfl)
theorem dX2_person_119 : decode cX2_person 119 = .ok (.return_, 1) := dk_177 (dk_at dksX2_person_5 1 rfl rfl)
def dkwX2_newName_4 : List UInt8 := [182, 0, 214, 87, 42, 89, 180, 0, 134, 4, 96, 181, 0, 134, 177]
abbrev dktX2_newName_4 : List UInt8 := dkwX2_newName_4 ++ []
def dkwX2_newName_3 : List UInt8 := [42, 180, 0, 134, 47, 184, 0, 208, 182, 0, 214, 87, 42, 180, 0, 169, 180, 0, 220, 28, 184, 0, 223]
abbrev dktX2_newName_3 : List UInt8 := dkwX2_newName_3 ++ dktX2_newName_4
def dkwX2_newName_2 : List UInt8 := [182, 0, 200, 2, 159, 0, 9, 42, 6, 182, 0, 155, 191, 42, 180, 0, 169, 180, 0, 204, 42, 180, 0, 88]
abbrev dktX2_newName_2 : List UInt8 := dkwX2_newName_2 ++ dktX2_newName_3
def dkwX2_newName_1 : List UInt8 := [154, 0, 9, 42, 4, 182, 0, 155, 191, 42, 180, 0, 169, 42, 180, 0, 88, 42, 180, 0, 134, 47]
abbrev dktX2_newName_1 : List UInt8 := dkwX2_newName_1 ++ dktX2_newName_2
def dkwX2_newName_0 : List UInt8 := [27, 153, 0, 9, 42, 8, 182, 0, 155, 191, 42, 89, 180, 0, 134, 4, 96, 181, 0, 134, 42, 182, 0, 196]
abbrev dktX2_newName_0 : List UInt8 := dkwX2_newName_0 ++ dktX2_newName_1
theorem dksX2_newName_0 : cX2_newName.data.toList.drop 0 = dktX2_newName_0 := by decide +kernel
theorem dksX2_newName_1 : cX2_newName.data.toList.drop 24 = dktX2_newName_1 := dk_seg dksX2_newName_0 24 rfl rfl
theorem dksX2_newName_2 : cX2_newName.data.toList.drop 46 = dktX2_newName_2 := dk_seg dksX2_newName_1 22 rfl rfl
theorem dksX2_newName_3 : cX2_newName.data.toList.drop 70 = dktX2_newName_3 := dk_seg dksX2_newName_2 24 rfl rfl
theorem dksX2_newName_4 : cX2_newName.data.toList.drop 93 = dktX2_newName_4 := dk_seg dksX2_newName_3 23 rfl rfl
theorem dX2_newName_0 : decode cX2_newName 0 = .ok (.iload_n 1, 1) := dk_27 (dk_at dksX2_newName_0 0 rfl rfl)
theorem dX2_newName_1 : decode cX2_newName 1 = .ok (.ifCond .eq 9, 3) := dk_153 0 9 (dk_at dksX2_newName_0 1 rfl rfl)
theorem dX2_newName_4 : decode cX2_newName 4 = .ok (.aload_n 0, 1) := dk_42 (dk_at dksX2_newName_0 4 rfl rfl)
theorem dX2_newName_5 : decode cX2_newName 5 = .ok (.iconst 5, 1) := dk_8 (dk_at dksX2_newName_0 5 rfl rfl)
theorem dX2_newName_6 : decode cX2_newName 6 = .ok (.invokevirtual 155, 3) := dk_182 0 155 (dk_at dksX2_newName_0 6 rfl rfl)
theorem dX2_newName_9 : decode cX2_newName 9 = .ok (.athrow, 1) := dk_191 (dk_at dksX2_newName_0 9 rfl rfl)
theorem dX2_newName_10 : decode cX2_newName 10 = .ok (.aload_n 0, 1) := dk_42 (dk_at dksX2_newName_0 10 rfl rfl)
theorem dX2_newName_11 : decode cX2_newName 11 = .ok (.dup, 1) := dk_89 (dk_at dksX2_newName_0 11 rfl rfl)
theorem dX2_newName_12 : decode cX2_newName 12 = .ok (.getfield 134, 3) := dk_180 0 134 (dk_at dksX2_newName_0 12 rfl rfl)
theorem dX2_newName_15 : decode cX2_newName 15 = .ok (.iconst 1, 1) := dk_4 (dk_at dksX2_newName_0 15 rfl rfl)
theorem dX2_newName_16 : decode cX2_newName 16 = .ok (.iadd, 1) := dk_96 (dk_at dksX2_newName_0 16 rfl rfl)
theorem dX2_newName_17 : decode cX2_newName 17 = .ok (.putfield 134, 3) := dk_181 0 134 (dk_at dksX2_newName_0 17 rfl rfl)
theorem dX2_newName_20 : decode cX2_newName 20 = .ok (.aload_n 0, 1) := dk_42 (dk_at dksX2_newName_0 20 rfl rfl)
theorem dX2_newName_21 : decode cX2_newName 21 = .ok (.invokevirtual 196, 3) := dk_182 0 196 (dk_at dksX2_newName_0 21 rfl rfl)
theorem dX2_newName_24 : decode cX2_newName 24 = .ok (.ifCond .ne 9, 3) := dk_154 0 9 (dk_at dksX2_newName_1 0 rfl rfl)
theorem dX2_newName_27 : decode cX2_newName 27 = .ok (.aload_n 0, 1) := dk_42 (dk_at dksX2_newName_1 3 rfl rfl)
theorem dX2_newName_28 : decode cX2_newName 28 = .ok (.iconst 1, 1) := dk_4 (dk_at dksX2_newName_1 4 rfl rfl)
theorem dX2_newName_29 : decode cX2_newName 29 = .ok (.invokevirtual 155, 3) := dk_182 0 155 (dk_at dksX2_newName_1 5 rfl rfl)
theorem dX2_newName_32 : decode cX2_newName 32 = .ok (.athrow, 1) := dk_191 (dk_at dksX2_newName_1 8 rfl rfl)
theorem dX2_newName_33 : decode cX2_newName 33 = .ok (.aload_n 0, 1) := dk_42 (dk_at dksX2_newName_1 9 rfl rfl)
theorem dX2_newName_34 : decode cX2_newName 34 = .ok (.getfield 169, 3) := dk_180 0 169 (dk_at dksX2_newName_1 10 rfl rfl)
theorem dX2_newName_37 : decode cX2_newName 37 = .ok (.aload_n 0, 1) := dk_42 (dk_at dksX2_newName_1 13 rfl rfl)
theorem dX2_newName_38 : decode cX2_newName 38 = .ok (.getfield 88, 3) := dk_180 0 88 (dk_at dksX2_newName_1 14 rfl rfl)
theorem dX2_newName_41 : decode cX2_newName 41 = .ok (.aload_n 0, 1) := dk_42 (dk_at dksX2_newName_1 17 rfl rfl)
theorem dX2_newName_42 : decode cX2_newName 42 = .ok (.getfield 134, 3) := dk_180 0 134 (dk_at dksX2_newName_1 18 rfl rfl)
theorem dX2_newName_45 : decode cX2_newName 45 = .ok (.laload, 1) := dk_47 (dk_at dksX2_newName_1 21 rfl rfl)
theorem dX2_newName_46 : decode cX2_newName 46 = .ok (.invokevirtual 200, 3) := dk_182 0 200 (dk_at dksX2_newName_2 0 rfl rfl)
theorem dX2_newName_49 : decode cX2_newName 49 = .ok (.iconst (-1), 1) := dk_2 (dk_at dksX2_newName_2 3 rfl rfl)
theorem dX2_newName_50 : decode cX2_newName 50 = .ok (.if_icmp .eq 9, 3) := dk_159 0 9 (dk_at dksX2_newName_2 4 rfl rfl)
theorem dX2_newName_53 : decode cX2_newName 53 = .ok (.aload_n 0, 1) := dk_42 (dk_at dksX2_newName_2 7 rfl rfl)
theorem dX2_newName_54 : decode cX2_newName 54 = .ok (.iconst 3, 1) := dk_6 (dk_at dksX2_newName_2 8 rfl rfl)
theorem dX2_newName_55 : decode cX2_newName 55 = .ok (.invokevirtual 155, 3) := dk_182 0 155 (dk_at dksX2_newName_2 9 rfl rfl)
theorem dX2_newName_58 : decode cX2_newName 58 = .ok (.athrow, 1) := dk_191 (dk_at dksX2_newName_2 12 rfl rfl)
theorem dX2_newName_59 : decode cX2_newName 59 = .ok (.aload_n 0, 1) := dk_42 (dk_at dksX2_newName_2 13 rfl rfl)
theorem dX2_newName_60 : decode cX2_newName 60 = .ok (.getfield 169, 3) := dk_180 0 169 (dk_at dksX2_newName_2 14 rfl rfl)
theorem dX2_newName_63 : decode cX2_newName 63 = .ok (.getfield 204, 3) := dk_180 0 204 (dk_at dksX2_newName_2 17 rfl rfl)
theorem dX2_newName_66 : decode cX2_newName 66 = .ok (.aload_n 0, 1) := dk_42 (dk_at dksX2_newName_2 20 rfl rfl)
theorem dX2_newName_67 : decode cX2_newName 67 = .ok (.getfield 88, 3) := dk_180 0 88 (dk_at dksX2_newName_2 21 rfl rfl)
theorem dX2_newName_70 : decode cX2_newName 70 = .ok (.aload_n 0, 1) := dk_42 (dk_at dksX2_newName_3 0 rfl rfl)
theorem dX2_newName_71 : decode cX2_newName 71 = .ok (.getfield 134, 3) := dk_180 0 134 (dk_at dksX2_newName_3 1 rfl rfl)
theorem dX2_newName_74 : decode cX2_newName 74 = .ok (.laload, 1) := dk_47 (dk_at dksX2_newName_3 4 rfl rfl)
theorem dX2_newName_75 : decode cX2_newName 75 = .ok (.invokestatic 208, 3) := dk_184 0 208 (dk_at dksX2_newName_3 5 rfl rfl)
theorem dX2_newName_78 : decode cX2_newName 78 = .ok (.invokevirtual 214, 3) := dk_182 0 214 (dk_at dksX2_newName_3 8 rfl rfl)
theorem dX2_newName_81 : decode cX2_newName 81 = .ok (.pop, 1) := dk_87 (dk_at dksX2_newName_3 11 rfl rfl)
theorem dX2_newName_82 : decode cX2_newName 82 = .ok (.aload_n 0, 1) := dk_42 (dk_at dksX2_newName_3 12 rfl rfl)
theorem dX2_newName_83 : decode cX2_newName 83 = .ok (.getfield 169, 3) := dk_180 0 169 (dk_at dksX2_newName_3 13 rfl rfl)
theorem dX2_newName_86 : decode cX2_newName 86 = .ok (.getfield 220, 3) := dk_180 0 220 (dk_at dksX2_newName_3 16 rfl rfl)
theorem dX2_newName_89 : decode cX2_newName 89 = .ok (.iload_n 2, 1) := dk_28 (dk_at dksX2_newName_3 19 rfl rfl)
theorem dX2_newName_90 : decode cX2_newName 90 = .ok (.invokestatic 223, 3) := dk_184 0 223 (dk_at dksX2_newName_3 20 rfl rfl)
theorem dX2_newName_93 : decode cX2_newName 93 = .ok (.invokevirtual 214, 3) := dk_182 0 214 (dk_at dksX2_newName_4 0 rfl rfl)
theorem dX2_newName_96 : decode cX2_newName 96 = .ok (.pop, 1) := dk_87 (dk_at dksX2_newName_4 3 rfl rfl)
theorem dX2_newName_97 : decode cX2_newName 97 = .ok (.aload_n 0, 1) := dk_42 (dk_at dksX2_newName_4 4 rfl rfl)
theorem dX2_newName_98 : decode cX2_newName 98 = .ok (.dup, 1) := dk_89 (dk_at dksX2_newName_4 5 rfl rfl)
theorem dX2_newName_99 : decode cX2_newName 99 = .ok (.getfield 134, 3) := dk_180 0 134 (dk_at dksX2_newName_4 6 rfl rfl)
theorem dX2_newName_102 : decode cX2_newName 102 = .ok (.iconst 1, 1) := dk_4 (dk_at dksX2_newName_4 9 rfl rfl)
theorem dX2_newName_103 : decode cX2_newName 103 = .ok (.iadd, 1) := dk_96 (dk_at dksX2_newName_4 10 rfl rfl)
theorem dX2_newName_104 : decode cX2_newName 104 = .ok (.putfield 134, 3) := dk_181 0 134 (dk_at dksX2_newName_4 11 rfl rfl)
theorem dX2_newName_107 : decode cX2_newName 107 = .ok (.return_, 1) := dk_177 (dk_at dksX2_newName_4 14 rfl rfl)
def dkwX2_isName_1 : List UInt8 := [160, 0, 19, 42, 42, 180, 0, 35, 182, 0, 159, 2, 160, 0, 7, 4, 167, 0, 4, 3, 172]
abbrev dktX2_isName_1 : List UInt8 := dkwX2_isName_1 ++ []
def dkwX2_isName_0 : List UInt8 := [42, 180, 0, 85, 42, 180, 0, 134, 46, 4, 160, 0, 31, 42, 42, 180, 0, 72, 182, 0, 159, 2]
abbrev dktX2_isName_0 : List UInt8 := dkwX2_isName_0 ++ dktX2_isName_1
theorem dksX2_isName_0 : cX2_isName.data.toList.drop 0 = dktX2_isName_0 := by decide +kernel
theorem dksX2_isName_1 : cX2_isName.data.toList.drop 22 = dktX2_isName_1 := dk_seg dksX2_isName_0 22 rfl rfl
theorem dX2_isName_0 : decode cX2_isName 0 = .ok (.aload_n 0, 1) := dk_42 (dk_at dksX2_isName_0 0 rfl rfl)
theorem dX2_isName_1 : decode cX2_isName 1 = .ok (.getfield 85, 3) := dk_180 0 85 (dk_at dksX2_isName_0 1 rfl rfl)
theorem dX2_isName_4 : decode cX2_isName 4 = .ok (.aload_n 0, 1) := dk_42 (dk_at dksX2_isName_0 4 rfl rfl)
theorem dX2_isName_5 : decode cX2_isName 5 = .ok (.getfield 134, 3) := dk_180 0 134 (dk_at dksX2_isName_0 5 rfl rfl)
theorem dX2_isName_8 : decode cX2_isName 8 = .ok (.iaload, 1) := dk_46 (dk_at dksX2_isName_0 8 rfl rfl)
theorem dX2_isName_9 : decode cX2_isName 9 = .ok (.iconst 1, 1) := dk_4 (dk_at dksX2_isName_0 9 rfl rfl)
theorem dX2_isName_10 : decode cX2_isName 10 = .ok (.if_icmp .ne 31, 3) := dk_160 0 31 (dk_at dksX2_isName_0 10 rfl rfl)
theorem dX2_isName_13 : decode cX2_isName 13 = .ok (.aload_n 0, 1) := dk_42 (dk_at dksX2_isName_0 13 rfl rfl)
theorem dX2_isName_14 : decode cX2_isName 14 = .ok (.aload_n 0, 1) := dk_42 (dk_at dksX2_isName_0 14 rfl rfl)
theorem dX2_isName_15 : decode cX2_isName 15 = .ok (.getfield 72, 3) := dk_180 0 72 (dk_at dksX2_isName_0 15 rfl rfl)
theorem dX2_isName_18 : decode cX2_isName 18 = .ok (.invokevirtual 159, 3) := dk_182 0 159 (dk_at dksX2_isName_0 18 rfl rfl)
theorem dX2_isName_21 : decode cX2_isName 21 = .ok (.iconst (-1), 1) := dk_2 (dk_at dksX2_isName_0 21 rfl rfl)
theorem dX2_isName_22 : decode cX2_isName 22 = .ok (.if_icmp .ne 19, 3) := dk_160 0 19 (dk_at dksX2_isName_1 0 rfl rfl)
theorem dX2_isName_25 : decode cX2_isName 25 = .ok (.aload_n 0, 1) := dk_42 (dk_at dksX2_isName_1 3 rfl rfl)
theorem dX2_isName_26 : decode cX2_isName 26 = .ok (.aload_n 0, 1) := dk_42 (dk_at dksX2_isName_1 4 rfl rfl)
theorem dX2_isName_27 : decode cX2_isName 27 = .ok (.getfield 35, 3) := dk_180 0 35 (dk_at dksX2_isName_1 5 rfl rfl)
theorem dX2_isName_30 : decode cX2_isName 30 = .ok (.invokevirtual 159, 3) := dk_182 0 159 (dk_at dksX2_isName_1 8 rfl rfl)
theorem dX2_isName_33 : decode cX2_isName 33 = .ok (.iconst (-1), 1) := dk_2 (dk_at dksX2_isName_1 11 rfl rfl)
theorem dX2_isName_34 : decode cX2_isName 34 = .ok (.if_icmp .ne 7, 3) := dk_160 0 7 (dk_at dksX2_isName_1 12 rfl rfl)
theorem dX2_isName_37 : decode cX2_isName 37 = .ok (.iconst 1, 1) := dk_4 (dk_at dksX2_isName_1 15 rfl rfl)
theorem dX2_isName_38 : decode cX2_isName 38 = .ok (.goto 4, 3) := dk_167 0 4 (dk_at dksX2_isName_1 16 rfl rfl)
theorem dX2_isName_41 : decode cX2_isName 41 = .ok (.iconst 0, 1) := dk_3 (dk_at dksX2_isName_1 19 rfl rfl)
theorem dX2_isName_42 : decode cX2_isName 42 = .ok (.ireturn, 1) := dk_172 (dk_at dksX2_isName_1 20 rfl rfl)
def dkwX2_which_1 : List UInt8 := [167, 255, 235, 2, 172]
abbrev dktX2_which_1 : List UInt8 := dkwX2_which_1 ++ []
def dkwX2_which_0 : List UInt8 := [3, 61, 28, 43, 190, 162, 0, 21, 42, 43, 28, 50, 182, 0, 145, 153, 0, 5, 28, 172, 132, 2, 1]
abbrev dktX2_which_0 : List UInt8 := dkwX2_which_0 ++ dktX2_which_1
theorem dksX2_which_0 : cX2_which.data.toList.drop 0 = dktX2_which_0 := by decide +kernel
theorem dksX2_which_1 : cX2_which.data.toList.drop 23 = dktX2_which_1 := dk_seg dksX2_which_0 23 rfl rfl
theorem dX2_which_0 : decode cX2_which 0 = .ok (.iconst 0, 1) := dk_3 (dk_at dksX2_which_0 0 rfl rfl)
theorem dX2_which_1 : decode cX2_which 1 = .ok (.istore_n 2, 1) := dk_61 (dk_at dksX2_which_0 1 rfl rfl)
theorem dX2_which_2 : decode cX2_which 2 = .ok (.iload_n 2, 1) := dk_28 (dk_at dksX2_which_0 2 rfl rfl)
theorem dX2_which_3 : decode cX2_which 3 = .ok (.aload_n 1, 1) := dk_43 (dk_at dksX2_which_0 3 rfl rfl)
theorem dX2_which_4 : decode cX2_which 4 = .ok (.arraylength, 1) := dk_190 (dk_at dksX2_which_0 4 rfl rfl)
theorem dX2_which_5 : decode cX2_which 5 = .ok (.if_icmp .ge 21, 3) := dk_162 0 21 (dk_at dksX2_which_0 5 rfl rfl)
theorem dX2_which_8 : decode cX2_which 8 = .ok (.aload_n 0, 1) := dk_42 (dk_at dksX2_which_0 8 rfl rfl)
theorem dX2_which_9 : decode cX2_which 9 = .ok (.aload_n 1, 1) := dk_43 (dk_at dksX2_which_0 9 rfl rfl)
theorem dX2_which_10 : decode cX2_which 10 = .ok (.iload_n 2, 1) := dk_28 (dk_at dksX2_which_0 10 rfl rfl)
theorem dX2_which_11 : decode cX2_which 11 = .ok (.aaload, 1) := dk_50 (dk_at dksX2_which_0 11 rfl rfl)
theorem dX2_which_12 : decode cX2_which 12 = .ok (.invokevirtual 145, 3) := dk_182 0 145 (dk_at dksX2_which_0 12 rfl rfl)
theorem dX2_which_15 : decode cX2_which 15 = .ok (.ifCond .eq 5, 3) := dk_153 0 5 (dk_at dksX2_which_0 15 rfl rfl)
theorem dX2_which_18 : decode cX2_which 18 = .ok (.iload_n 2, 1) := dk_28 (dk_at dksX2_which_0 18 rfl rfl)
theorem dX2_which_19 : decode cX2_which 19 = .ok (.ireturn, 1) := dk_172 (dk_at dksX2_which_0 19 rfl rfl)
theorem dX2_which_20 : decode cX2_which 20 = .ok (.iinc 2 1, 3) := dk_132 2 1 (dk_at dksX2_which_0 20 rfl rfl)
theorem dX2_which_23 : decode cX2_which 23 = .ok (.goto (-21), 3) := dk_167 255 235 (dk_at dksX2_which_1 0 rfl rfl)
theorem dX2_which_26 : decode cX2_which 26 = .ok (.iconst (-1), 1) := dk_2 (dk_at dksX2_which_1 3 rfl rfl)
theorem dX2_which_27 : decode cX2_which 27 = .ok (.ireturn, 1) := dk_172 (dk_at dksX2_which_1 4 rfl rfl)
def dkwX2_row_3 : List UInt8 := [176]
abbrev dktX2_row_3 : List UInt8 := dkwX2_row_3 ++ []
def dkwX2_row_2 : List UInt8 := [180, 0, 134, 46, 5, 159, 255, 209, 29, 188, 10, 58, 4, 44, 3, 25, 4, 3, 29, 184, 1, 0, 25, 4]
abbrev dktX2_row_2 : List UInt8 := dkwX2_row_2 ++ dktX2_row_3
def dkwX2_row_1 : List UInt8 := [4, 100, 181, 0, 134, 42, 8, 182, 0, 155, 191, 44, 29, 21, 4, 79, 132, 3, 1, 42, 180, 0, 85, 42]
abbrev dktX2_row_1 : List UInt8 := dkwX2_row_1 ++ dktX2_row_2
def dkwX2_row_0 : List UInt8 := [27, 188, 10, 77, 3, 62, 42, 3, 7, 182, 0, 192, 54, 4, 29, 27, 160, 0, 19, 42, 89, 180, 0, 134]
abbrev dktX2_row_0 : List UInt8 := dkwX2_row_0 ++ dktX2_row_1
theorem dksX2_row_0 : cX2_row.data.toList.drop 0 = dktX2_row_0 := by decide +kernel
theorem dksX2_row_1 : cX2_row.data.toList.drop 24 = dktX2_row_1 := dk_seg dksX2_row_0 24 rfl rfl
theorem dksX2_row_2 : cX2_row.data.toList.drop 48 = dktX2_row_2 := dk_seg dksX2_row_1 24 rfl rfl
theorem dksX2_row_3 : cX2_row.data.toList.drop 72 = dktX2_row_3 := dk_seg dksX2_row_2 24 rfl rfl
theorem dX2_row_0 : decode cX2_row 0 = .ok (.iload_n 1, 1) := dk_27 (dk_at dksX2_row_0 0 rfl rfl)
theorem dX2_row_1 : decode cX2_row 1 = .ok (.newarray .int, 2) := dk_188_10 (dk_at dksX2_row_0 1 rfl rfl)
theorem dX2_row_3 : decode cX2_row 3 = .ok (.astore_n 2, 1) := dk_77 (dk_at dksX2_row_0 3 rfl rfl)
theorem dX2_row_4 : decode cX2_row 4 = .ok (.iconst 0, 1) := dk_3 (dk_at dksX2_row_0 4 rfl rfl)
theorem dX2_row_5 : decode cX2_row 5 = .ok (.istore_n 3, 1) := dk_62 (dk_at dksX2_row_0 5 rfl rfl)
theorem dX2_row_6 : decode cX2_row 6 = .ok (.aload_n 0, 1) := dk_42 (dk_at dksX2_row_0 6 rfl rfl)
theorem dX2_row_7 : decode cX2_row 7 = .ok (.iconst 0, 1) := dk_3 (dk_at dksX2_row_0 7 rfl rfl)
theorem dX2_row_8 : decode cX2_row 8 = .ok (.iconst 4, 1) := dk_7 (dk_at dksX2_row_0 8 rfl rfl)
theorem dX2_row_9 : decode cX2_row 9 = .ok (.invokevirtual 192, 3) := dk_182 0 192 (dk_at dksX2_row_0 9 rfl rfl)
theorem dX2_row_12 : decode cX2_row 12 = .ok (.istore 4, 2) := dk_54 4 (dk_at dksX2_row_0 12 rfl rfl)
theorem dX2_row_14 : decode cX2_row 14 = .ok (.iload_n 3, 1) := dk_29 (dk_at dksX2_row_0 14 rfl rfl)
theorem dX2_row_15 : decode cX2_row 15 = .ok (.iload_n 1, 1) := dk_27 (dk_at dksX2_row_0 15 rfl rfl)
theorem dX2_row_16 : decode cX2_row 16 = .ok (.if_icmp .ne 19, 3) := dk_160 0 19 (dk_at dksX2_row_0 16 rfl rfl)
theorem dX2_row_19 : decode cX2_row 19 = .ok (.aload_n 0, 1) := dk_42 (dk_at dksX2_row_0 19 rfl rfl)
theorem dX2_row_20 : decode cX2_row 20 = .ok (.dup, 1) := dk_89 (dk_at dksX2_row_0 20 rfl rfl)
theorem dX2_row_21 : decode cX2_row 21 = .ok (.getfield 134, 3) := dk_180 0 134 (dk_at dksX2_row_0 21 rfl rfl)
theorem dX2_row_24 : decode cX2_row 24 = .ok (.iconst 1, 1) := dk_4 (dk_at dksX2_row_1 0 rfl rfl)
theorem dX2_row_25 : decode cX2_row 25 = .ok (.isub, 1) := dk_100 (dk_at dksX2_row_1 1 rfl rfl)
theorem dX2_row_26 : decode cX2_row 26 = .ok (.putfield 134, 3) := dk_181 0 134 (dk_at dksX2_row_1 2 rfl rfl)
theorem dX2_row_29 : decode cX2_row 29 = .ok (.aload_n 0, 1) := dk_42 (dk_at dksX2_row_1 5 rfl rfl)
theorem dX2_row_30 : decode cX2_row 30 = .ok (.iconst 5, 1) := dk_8 (dk_at dksX2_row_1 6 rfl rfl)
theorem dX2_row_31 : decode cX2_row 31 = .ok (.invokevirtual 155, 3) := dk_182 0 155 (dk_at dksX2_row_1 7 rfl rfl)
theorem dX2_row_34 : decode cX2_row 34 = .ok (.athrow, 1) := dk_191 (dk_at dksX2_row_1 10 rfl rfl)
theorem dX2_row_35 : decode cX2_row 35 = .ok (.aload_n 2, 1) := dk_44 (dk_at dksX2_row_1 11 rfl rfl)
theorem dX2_row_36 : decode cX2_row 36 = .ok (.iload_n 3, 1) := dk_29 (dk_at dksX2_row_1 12 rfl rfl)
theorem dX2_row_37 : decode cX2_row 37 = .ok (.iload 4, 2) := dk_21 4 (dk_at dksX2_row_1 13 rfl rfl)
theorem dX2_row_39 : decode cX2_row 39 = .ok (.iastore, 1) := dk_79 (dk_at dksX2_row_1 15 rfl rfl)
theorem dX2_row_40 : decode cX2_row 40 = .ok (.iinc 3 1, 3) := dk_132 3 1 (dk_at dksX2_row_1 16 rfl rfl)
theorem dX2_row_43 : decode cX2_row 43 = .ok (.aload_n 0, 1) := dk_42 (dk_at dksX2_row_1 19 rfl rfl)
theorem dX2_row_44 : decode cX2_row 44 = .ok (.getfield 85, 3) := dk_180 0 85 (dk_at dksX2_row_1 20 rfl rfl)
theorem dX2_row_47 : decode cX2_row 47 = .ok (.aload_n 0, 1) := dk_42 (dk_at dksX2_row_1 23 rfl rfl)
theorem dX2_row_48 : decode cX2_row 48 = .ok (.getfield 134, 3) := dk_180 0 134 (dk_at dksX2_row_2 0 rfl rfl)
theorem dX2_row_51 : decode cX2_row 51 = .ok (.iaload, 1) := dk_46 (dk_at dksX2_row_2 3 rfl rfl)
theorem dX2_row_52 : decode cX2_row 52 = .ok (.iconst 2, 1) := dk_5 (dk_at dksX2_row_2 4 rfl rfl)
theorem dX2_row_53 : decode cX2_row 53 = .ok (.if_icmp .eq (-47), 3) := dk_159 255 209 (dk_at dksX2_row_2 5 rfl rfl)
theorem dX2_row_56 : decode cX2_row 56 = .ok (.iload_n 3, 1) := dk_29 (dk_at dksX2_row_2 8 rfl rfl)
theorem dX2_row_57 : decode cX2_row 57 = .ok (.newarray .int, 2) := dk_188_10 (dk_at dksX2_row_2 9 rfl rfl)
theorem dX2_row_59 : decode cX2_row 59 = .ok (.astore 4, 2) := dk_58 4 (dk_at dksX2_row_2 11 rfl rfl)
theorem dX2_row_61 : decode cX2_row 61 = .ok (.aload_n 2, 1) := dk_44 (dk_at dksX2_row_2 13 rfl rfl)
theorem dX2_row_62 : decode cX2_row 62 = .ok (.iconst 0, 1) := dk_3 (dk_at dksX2_row_2 14 rfl rfl)
theorem dX2_row_63 : decode cX2_row 63 = .ok (.aload 4, 2) := dk_25 4 (dk_at dksX2_row_2 15 rfl rfl)
theorem dX2_row_65 : decode cX2_row 65 = .ok (.iconst 0, 1) := dk_3 (dk_at dksX2_row_2 17 rfl rfl)
theorem dX2_row_66 : decode cX2_row 66 = .ok (.iload_n 3, 1) := dk_29 (dk_at dksX2_row_2 18 rfl rfl)
theorem dX2_row_67 : decode cX2_row 67 = .ok (.invokestatic 256, 3) := dk_184 1 0 (dk_at dksX2_row_2 19 rfl rfl)
theorem dX2_row_70 : decode cX2_row 70 = .ok (.aload 4, 2) := dk_25 4 (dk_at dksX2_row_2 22 rfl rfl)
theorem dX2_row_72 : decode cX2_row 72 = .ok (.areturn, 1) := dk_176 (dk_at dksX2_row_3 0 rfl rfl)
def dkwX2_scout_2 : List UInt8 := [182, 0, 214, 87, 177]
abbrev dktX2_scout_2 : List UInt8 := dkwX2_scout_2 ++ []
def dkwX2_scout_1 : List UInt8 := [27, 96, 182, 0, 241, 42, 180, 0, 169, 180, 0, 253, 42, 18, 46, 3, 16, 35, 182, 0, 228, 184, 0, 223]
abbrev dktX2_scout_1 : List UInt8 := dkwX2_scout_1 ++ dktX2_scout_2
def dkwX2_scout_0 : List UInt8 := [42, 180, 0, 169, 180, 0, 253, 182, 0, 238, 60, 42, 27, 7, 160, 0, 7, 4, 167, 0, 4, 3, 16, 20]
abbrev dktX2_scout_0 : List UInt8 := dkwX2_scout_0 ++ dktX2_scout_1
theorem dksX2_scout_0 : cX2_scout.data.toList.drop 0 = dktX2_scout_0 := by decide +kernel
theorem dksX2_scout_1 : cX2_scout.data.toList.drop 24 = dktX2_scout_1 := dk_seg dksX2_scout_0 24 rfl rfl
theorem dksX2_scout_2 : cX2_scout.data.toList.drop 48 = dktX2_scout_2 := dk_seg dksX2_scout_1 24 rfl rfl
theorem dX2_scout_0 : decode cX2_scout 0 = .ok (.aload_n 0, 1) := dk_42 (dk_at dksX2_scout_0 0 rfl rfl)
theorem dX2_scout_1 : decode cX2_scout 1 = .ok (.getfield 169, 3) := dk_180 0 169 (dk_at dksX2_scout_0 1 rfl rfl)
theorem dX2_scout_4 : decode cX2_scout 4 = .ok (.getfield 253, 3) := dk_180 0 253 (dk_at dksX2_scout_0 4 rfl rfl)
theorem dX2_scout_7 : decode cX2_scout 7 = .ok (.invokevirtual 238, 3) := dk_182 0 238 (dk_at dksX2_scout_0 7 rfl rfl)
theorem dX2_scout_10 : decode cX2_scout 10 = .ok (.istore_n 1, 1) := dk_60 (dk_at dksX2_scout_0 10 rfl rfl)
theorem dX2_scout_11 : decode cX2_scout 11 = .ok (.aload_n 0, 1) := dk_42 (dk_at dksX2_scout_0 11 rfl rfl)
theorem dX2_scout_12 : decode cX2_scout 12 = .ok (.iload_n 1, 1) := dk_27 (dk_at dksX2_scout_0 12 rfl rfl)
theorem dX2_scout_13 : decode cX2_scout 13 = .ok (.iconst 4, 1) := dk_7 (dk_at dksX2_scout_0 13 rfl rfl)
theorem dX2_scout_14 : decode cX2_scout 14 = .ok (.if_icmp .ne 7, 3) := dk_160 0 7 (dk_at dksX2_scout_0 14 rfl rfl)
theorem dX2_scout_17 : decode cX2_scout 17 = .ok (.iconst 1, 1) := dk_4 (dk_at dksX2_scout_0 17 rfl rfl)
theorem dX2_scout_18 : decode cX2_scout 18 = .ok (.goto 4, 3) := dk_167 0 4 (dk_at dksX2_scout_0 18 rfl rfl)
theorem dX2_scout_21 : decode cX2_scout 21 = .ok (.iconst 0, 1) := dk_3 (dk_at dksX2_scout_0 21 rfl rfl)
theorem dX2_scout_22 : decode cX2_scout 22 = .ok (.bipush 20, 2) := dk_16 20 (dk_at dksX2_scout_0 22 rfl rfl)
theorem dX2_scout_24 : decode cX2_scout 24 = .ok (.iload_n 1, 1) := dk_27 (dk_at dksX2_scout_1 0 rfl rfl)
theorem dX2_scout_25 : decode cX2_scout 25 = .ok (.iadd, 1) := dk_96 (dk_at dksX2_scout_1 1 rfl rfl)
theorem dX2_scout_26 : decode cX2_scout 26 = .ok (.invokevirtual 241, 3) := dk_182 0 241 (dk_at dksX2_scout_1 2 rfl rfl)
theorem dX2_scout_29 : decode cX2_scout 29 = .ok (.aload_n 0, 1) := dk_42 (dk_at dksX2_scout_1 5 rfl rfl)
theorem dX2_scout_30 : decode cX2_scout 30 = .ok (.getfield 169, 3) := dk_180 0 169 (dk_at dksX2_scout_1 6 rfl rfl)
theorem dX2_scout_33 : decode cX2_scout 33 = .ok (.getfield 253, 3) := dk_180 0 253 (dk_at dksX2_scout_1 9 rfl rfl)
theorem dX2_scout_36 : decode cX2_scout 36 = .ok (.aload_n 0, 1) := dk_42 (dk_at dksX2_scout_1 12 rfl rfl)
theorem dX2_scout_37 : decode cX2_scout 37 = .ok (.ldc 46, 2) := dk_18 46 (dk_at dksX2_scout_1 13 rfl rfl)
theorem dX2_scout_39 : decode cX2_scout 39 = .ok (.iconst 0, 1) := dk_3 (dk_at dksX2_scout_1 15 rfl rfl)
theorem dX2_scout_40 : decode cX2_scout 40 = .ok (.bipush 35, 2) := dk_16 35 (dk_at dksX2_scout_1 16 rfl rfl)
theorem dX2_scout_42 : decode cX2_scout 42 = .ok (.invokevirtual 228, 3) := dk_182 0 228 (dk_at dksX2_scout_1 18 rfl rfl)
theorem dX2_scout_45 : decode cX2_scout 45 = .ok (.invokestatic 223, 3) := dk_184 0 223 (dk_at dksX2_scout_1 21 rfl rfl)
theorem dX2_scout_48 : decode cX2_scout 48 = .ok (.invokevirtual 214, 3) := dk_182 0 214 (dk_at dksX2_scout_2 0 rfl rfl)
theorem dX2_scout_51 : decode cX2_scout 51 = .ok (.pop, 1) := dk_87 (dk_at dksX2_scout_2 3 rfl rfl)
theorem dX2_scout_52 : decode cX2_scout 52 = .ok (.return_, 1) := dk_177 (dk_at dksX2_scout_2 4 rfl rfl)
def dkwX2_single_5 : List UInt8 := [42, 180, 0, 169, 42, 182, 1, 18, 181, 1, 22, 177]
abbrev dktX2_single_5 : List UInt8 := dkwX2_single_5 ++ []
def dkwX2_single_4 : List UInt8 := [167, 0, 35, 27, 4, 160, 0, 19, 42, 180, 0, 169, 42, 16, 12, 182, 0, 245, 181, 1, 16, 167, 0, 14]
abbrev dktX2_single_4 : List UInt8 := dkwX2_single_4 ++ dktX2_single_5
def dkwX2_single_3 : List UInt8 := [16, 6, 182, 0, 192, 181, 1, 10, 42, 180, 0, 169, 42, 18, 40, 5, 16, 6, 182, 0, 228, 181, 1, 13]
abbrev dktX2_single_3 : List UInt8 := dkwX2_single_3 ++ dktX2_single_4
def dkwX2_single_2 : List UInt8 := [181, 0, 173, 42, 89, 180, 0, 134, 4, 96, 181, 0, 134, 27, 154, 0, 36, 42, 180, 0, 169, 42, 5]
abbrev dktX2_single_2 : List UInt8 := dkwX2_single_2 ++ dktX2_single_3
def dkwX2_single_1 : List UInt8 := [27, 184, 1, 6, 153, 0, 9, 42, 6, 182, 0, 155, 191, 42, 89, 180, 0, 173, 4, 27, 120, 128]
abbrev dktX2_single_1 : List UInt8 := dkwX2_single_1 ++ dktX2_single_2
def dkwX2_single_0 : List UInt8 := [42, 42, 180, 0, 75, 182, 0, 159, 60, 27, 2, 160, 0, 9, 42, 4, 182, 0, 155, 191, 42, 180, 0, 173]
abbrev dktX2_single_0 : List UInt8 := dkwX2_single_0 ++ dktX2_single_1
theorem dksX2_single_0 : cX2_single.data.toList.drop 0 = dktX2_single_0 := by decide +kernel
theorem dksX2_single_1 : cX2_single.data.toList.drop 24 = dktX2_single_1 := dk_seg dksX2_single_0 24 rfl rfl
theorem dksX2_single_2 : cX2_single.data.toList.drop 46 = dktX2_single_2 := dk_seg dksX2_single_1 22 rfl rfl
theorem dksX2_single_3 : cX2_single.data.toList.drop 69 = dktX2_single_3 := dk_seg dksX2_single_2 23 rfl rfl
theorem dksX2_single_4 : cX2_single.data.toList.drop 93 = dktX2_single_4 := dk_seg dksX2_single_3 24 rfl rfl
theorem dksX2_single_5 : cX2_single.data.toList.drop 117 = dktX2_single_5 := dk_seg dksX2_single_4 24 rfl rfl
theorem dX2_single_0 : decode cX2_single 0 = .ok (.aload_n 0, 1) := dk_42 (dk_at dksX2_single_0 0 rfl rfl)
theorem dX2_single_1 : decode cX2_single 1 = .ok (.aload_n 0, 1) := dk_42 (dk_at dksX2_single_0 1 rfl rfl)
theorem dX2_single_2 : decode cX2_single 2 = .ok (.getfield 75, 3) := dk_180 0 75 (dk_at dksX2_single_0 2 rfl rfl)
theorem dX2_single_5 : decode cX2_single 5 = .ok (.invokevirtual 159, 3) := dk_182 0 159 (dk_at dksX2_single_0 5 rfl rfl)
theorem dX2_single_8 : decode cX2_single 8 = .ok (.istore_n 1, 1) := dk_60 (dk_at dksX2_single_0 8 rfl rfl)
theorem dX2_single_9 : decode cX2_single 9 = .ok (.iload_n 1, 1) := dk_27 (dk_at dksX2_single_0 9 rfl rfl)
theorem dX2_single_10 : decode cX2_single 10 = .ok (.iconst (-1), 1) := dk_2 (dk_at dksX2_single_0 10 rfl rfl)
theorem dX2_single_11 : decode cX2_single 11 = .ok (.if_icmp .ne 9, 3) := dk_160 0 9 (dk_at dksX2_single_0 11 rfl rfl)
theorem dX2_single_14 : decode cX2_single 14 = .ok (.aload_n 0, 1) := dk_42 (dk_at dksX2_single_0 14 rfl rfl)
theorem dX2_single_15 : decode cX2_single 15 = .ok (.iconst 1, 1) := dk_4 (dk_at dksX2_single_0 15 rfl rfl)
theorem dX2_single_16 : decode cX2_single 16 = .ok (.invokevirtual 155, 3) := dk_182 0 155 (dk_at dksX2_single_0 16 rfl rfl)
theorem dX2_single_19 : decode cX2_single 19 = .ok (.athrow, 1) := dk_191 (dk_at dksX2_single_0 19 rfl rfl)
theorem dX2_single_20 : decode cX2_single 20 = .ok (.aload_n 0, 1) := dk_42 (dk_at dksX2_single_0 20 rfl rfl)
theorem dX2_single_21 : decode cX2_single 21 = .ok (.getfield 173, 3) := dk_180 0 173 (dk_at dksX2_single_0 21 rfl rfl)
theorem dX2_single_24 : decode cX2_single 24 = .ok (.iload_n 1, 1) := dk_27 (dk_at dksX2_single_1 0 rfl rfl)
theorem dX2_single_25 : decode cX2_single 25 = .ok (.invokestatic 262, 3) := dk_184 1 6 (dk_at dksX2_single_1 1 rfl rfl)
theorem dX2_single_28 : decode cX2_single 28 = .ok (.ifCond .eq 9, 3) := dk_153 0 9 (dk_at dksX2_single_1 4 rfl rfl)
theorem dX2_single_31 : decode cX2_single 31 = .ok (.aload_n 0, 1) := dk_42 (dk_at dksX2_single_1 7 rfl rfl)
theorem dX2_single_32 : decode cX2_single 32 = .ok (.iconst 3, 1) := dk_6 (dk_at dksX2_single_1 8 rfl rfl)
theorem dX2_single_33 : decode cX2_single 33 = .ok (.invokevirtual 155, 3) := dk_182 0 155 (dk_at dksX2_single_1 9 rfl rfl)
theorem dX2_single_36 : decode cX2_single 36 = .ok (.athrow, 1) := dk_191 (dk_at dksX2_single_1 12 rfl rfl)
theorem dX2_single_37 : decode cX2_single 37 = .ok (.aload_n 0, 1) := dk_42 (dk_at dksX2_single_1 13 rfl rfl)
theorem dX2_single_38 : decode cX2_single 38 = .ok (.dup, 1) := dk_89 (dk_at dksX2_single_1 14 rfl rfl)
theorem dX2_single_39 : decode cX2_single 39 = .ok (.getfield 173, 3) := dk_180 0 173 (dk_at dksX2_single_1 15 rfl rfl)
theorem dX2_single_42 : decode cX2_single 42 = .ok (.iconst 1, 1) := dk_4 (dk_at dksX2_single_1 18 rfl rfl)
theorem dX2_single_43 : decode cX2_single 43 = .ok (.iload_n 1, 1) := dk_27 (dk_at dksX2_single_1 19 rfl rfl)
theorem dX2_single_44 : decode cX2_single 44 = .ok (.ishl, 1) := dk_120 (dk_at dksX2_single_1 20 rfl rfl)
theorem dX2_single_45 : decode cX2_single 45 = .ok (.ior, 1) := dk_128 (dk_at dksX2_single_1 21 rfl rfl)
theorem dX2_single_46 : decode cX2_single 46 = .ok (.putfield 173, 3) := dk_181 0 173 (dk_at dksX2_single_2 0 rfl rfl)
theorem dX2_single_49 : decode cX2_single 49 = .ok (.aload_n 0, 1) := dk_42 (dk_at dksX2_single_2 3 rfl rfl)
theorem dX2_single_50 : decode cX2_single 50 = .ok (.dup, 1) := dk_89 (dk_at dksX2_single_2 4 rfl rfl)
theorem dX2_single_51 : decode cX2_single 51 = .ok (.getfield 134, 3) := dk_180 0 134 (dk_at dksX2_single_2 5 rfl rfl)
theorem dX2_single_54 : decode cX2_single 54 = .ok (.iconst 1, 1) := dk_4 (dk_at dksX2_single_2 8 rfl rfl)
theorem dX2_single_55 : decode cX2_single 55 = .ok (.iadd, 1) := dk_96 (dk_at dksX2_single_2 9 rfl rfl)
theorem dX2_single_56 : decode cX2_single 56 = .ok (.putfield 134, 3) := dk_181 0 134 (dk_at dksX2_single_2 10 rfl rfl)
theorem dX2_single_59 : decode cX2_single 59 = .ok (.iload_n 1, 1) := dk_27 (dk_at dksX2_single_2 13 rfl rfl)
theorem dX2_single_60 : decode cX2_single 60 = .ok (.ifCond .ne 36, 3) := dk_154 0 36 (dk_at dksX2_single_2 14 rfl rfl)
theorem dX2_single_63 : decode cX2_single 63 = .ok (.aload_n 0, 1) := dk_42 (dk_at dksX2_single_2 17 rfl rfl)
theorem dX2_single_64 : decode cX2_single 64 = .ok (.getfield 169, 3) := dk_180 0 169 (dk_at dksX2_single_2 18 rfl rfl)
theorem dX2_single_67 : decode cX2_single 67 = .ok (.aload_n 0, 1) := dk_42 (dk_at dksX2_single_2 21 rfl rfl)
theorem dX2_single_68 : decode cX2_single 68 = .ok (.iconst 2, 1) := dk_5 (dk_at dksX2_single_2 22 rfl rfl)
theorem dX2_single_69 : decode cX2_single 69 = .ok (.bipush 6, 2) := dk_16 6 (dk_at dksX2_single_3 0 rfl rfl)
theorem dX2_single_71 : decode cX2_single 71 = .ok (.invokevirtual 192, 3) := dk_182 0 192 (dk_at dksX2_single_3 2 rfl rfl)
theorem dX2_single_74 : decode cX2_single 74 = .ok (.putfield 266, 3) := dk_181 1 10 (dk_at dksX2_single_3 5 rfl rfl)
theorem dX2_single_77 : decode cX2_single 77 = .ok (.aload_n 0, 1) := dk_42 (dk_at dksX2_single_3 8 rfl rfl)
theorem dX2_single_78 : decode cX2_single 78 = .ok (.getfield 169, 3) := dk_180 0 169 (dk_at dksX2_single_3 9 rfl rfl)
theorem dX2_single_81 : decode cX2_single 81 = .ok (.aload_n 0, 1) := dk_42 (dk_at dksX2_single_3 12 rfl rfl)
theorem dX2_single_82 : decode cX2_single 82 = .ok (.ldc 40, 2) := dk_18 40 (dk_at dksX2_single_3 13 rfl rfl)
theorem dX2_single_84 : decode cX2_single 84 = .ok (.iconst 2, 1) := dk_5 (dk_at dksX2_single_3 15 rfl rfl)
theorem dX2_single_85 : decode cX2_single 85 = .ok (.bipush 6, 2) := dk_16 6 (dk_at dksX2_single_3 16 rfl rfl)
theorem dX2_single_87 : decode cX2_single 87 = .ok (.invokevirtual 228, 3) := dk_182 0 228 (dk_at dksX2_single_3 18 rfl rfl)
theorem dX2_single_90 : decode cX2_single 90 = .ok (.putfield 269, 3) := dk_181 1 13 (dk_at dksX2_single_3 21 rfl rfl)
theorem dX2_single_93 : decode cX2_single 93 = .ok (.goto 35, 3) := dk_167 0 35 (dk_at dksX2_single_4 0 rfl rfl)
theorem dX2_single_96 : decode cX2_single 96 = .ok (.iload_n 1, 1) := dk_27 (dk_at dksX2_single_4 3 rfl rfl)
theorem dX2_single_97 : decode cX2_single 97 = .ok (.iconst 1, 1) := dk_4 (dk_at dksX2_single_4 4 rfl rfl)
theorem dX2_single_98 : decode cX2_single 98 = .ok (.if_icmp .ne 19, 3) := dk_160 0 19 (dk_at dksX2_single_4 5 rfl rfl)
theorem dX2_single_101 : decode cX2_single 101 = .ok (.aload_n 0, 1) := dk_42 (dk_at dksX2_single_4 8 rfl rfl)
theorem dX2_single_102 : decode cX2_single 102 = .ok (.getfield 169, 3) := dk_180 0 169 (dk_at dksX2_single_4 9 rfl rfl)
theorem dX2_single_105 : decode cX2_single 105 = .ok (.aload_n 0, 1) := dk_42 (dk_at dksX2_single_4 12 rfl rfl)
theorem dX2_single_106 : decode cX2_single 106 = .ok (.bipush 12, 2) := dk_16 12 (dk_at dksX2_single_4 13 rfl rfl)
theorem dX2_single_108 : decode cX2_single 108 = .ok (.invokevirtual 245, 3) := dk_182 0 245 (dk_at dksX2_single_4 15 rfl rfl)
theorem dX2_single_111 : decode cX2_single 111 = .ok (.putfield 272, 3) := dk_181 1 16 (dk_at dksX2_single_4 18 rfl rfl)
theorem dX2_single_114 : decode cX2_single 114 = .ok (.goto 14, 3) := dk_167 0 14 (dk_at dksX2_single_4 21 rfl rfl)
theorem dX2_single_117 : decode cX2_single 117 = .ok (.aload_n 0, 1) := dk_42 (dk_at dksX2_single_5 0 rfl rfl)
theorem dX2_single_118 : decode cX2_single 118 = .ok (.getfield 169, 3) := dk_180 0 169 (dk_at dksX2_single_5 1 rfl rfl)
theorem dX2_single_121 : decode cX2_single 121 = .ok (.aload_n 0, 1) := dk_42 (dk_at dksX2_single_5 4 rfl rfl)
theorem dX2_single_122 : decode cX2_single 122 = .ok (.invokevirtual 274, 3) := dk_182 1 18 (dk_at dksX2_single_5 5 rfl rfl)
theorem dX2_single_125 : decode cX2_single 125 = .ok (.putfield 278, 3) := dk_181 1 22 (dk_at dksX2_single_5 8 rfl rfl)
theorem dX2_single_128 : decode cX2_single 128 = .ok (.return_, 1) := dk_177 (dk_at dksX2_single_5 11 rfl rfl)
def dkwX2_whole_0 : List UInt8 := [42, 3, 181, 1, 47, 42, 182, 1, 50, 176]
abbrev dktX2_whole_0 : List UInt8 := dkwX2_whole_0 ++ []
theorem dksX2_whole_0 : cX2_whole.data.toList.drop 0 = dktX2_whole_0 := by decide +kernel
theorem dX2_whole_0 : decode cX2_whole 0 = .ok (.aload_n 0, 1) := dk_42 (dk_at dksX2_whole_0 0 rfl rfl)
theorem dX2_whole_1 : decode cX2_whole 1 = .ok (.iconst 0, 1) := dk_3 (dk_at dksX2_whole_0 1 rfl rfl)
theorem dX2_whole_2 : decode cX2_whole 2 = .ok (.putfield 303, 3) := dk_181 1 47 (dk_at dksX2_whole_0 2 rfl rfl)
theorem dX2_whole_5 : decode cX2_whole 5 = .ok (.aload_n 0, 1) := dk_42 (dk_at dksX2_whole_0 5 rfl rfl)
theorem dX2_whole_6 : decode cX2_whole 6 = .ok (.invokevirtual 306, 3) := dk_182 1 50 (dk_at dksX2_whole_0 6 rfl rfl)
theorem dX2_whole_9 : decode cX2_whole 9 = .ok (.areturn, 1) := dk_176 (dk_at dksX2_whole_0 9 rfl rfl)
def dkwX2_all_4 : List UInt8 := [199, 0, 7, 43, 167, 0, 4, 44, 176]
abbrev dktX2_all_4 : List UInt8 := dkwX2_all_4 ++ []
def dkwX2_all_3 : List UInt8 := [183, 1, 70, 167, 0, 12, 187, 1, 71, 89, 25, 4, 183, 1, 73, 182, 0, 214, 87, 167, 255, 176, 44]
abbrev dktX2_all_3 : List UInt8 := dkwX2_all_3 ++ dktX2_all_4
def dkwX2_all_2 : List UInt8 := [58, 4, 43, 44, 184, 1, 61, 77, 44, 180, 1, 65, 29, 153, 0, 15, 187, 1, 68, 89, 25, 4]
abbrev dktX2_all_2 : List UInt8 := dkwX2_all_2 ++ dktX2_all_3
def dkwX2_all_1 : List UInt8 := [153, 0, 68, 42, 18, 68, 182, 0, 145, 62, 42, 89, 180, 0, 134, 4, 96, 181, 0, 134, 42, 182, 1, 58]
abbrev dktX2_all_1 : List UInt8 := dkwX2_all_1 ++ dktX2_all_2
def dkwX2_all_0 : List UInt8 := [42, 182, 1, 58, 76, 1, 77, 42, 18, 68, 182, 0, 145, 154, 0, 12, 42, 18, 70, 182, 0, 145]
abbrev dktX2_all_0 : List UInt8 := dkwX2_all_0 ++ dktX2_all_1
theorem dksX2_all_0 : cX2_all.data.toList.drop 0 = dktX2_all_0 := by decide +kernel
theorem dksX2_all_1 : cX2_all.data.toList.drop 22 = dktX2_all_1 := dk_seg dksX2_all_0 22 rfl rfl
theorem dksX2_all_2 : cX2_all.data.toList.drop 46 = dktX2_all_2 := dk_seg dksX2_all_1 24 rfl rfl
theorem dksX2_all_3 : cX2_all.data.toList.drop 68 = dktX2_all_3 := dk_seg dksX2_all_2 22 rfl rfl
theorem dksX2_all_4 : cX2_all.data.toList.drop 91 = dktX2_all_4 := dk_seg dksX2_all_3 23 rfl rfl
theorem dX2_all_0 : decode cX2_all 0 = .ok (.aload_n 0, 1) := dk_42 (dk_at dksX2_all_0 0 rfl rfl)
theorem dX2_all_1 : decode cX2_all 1 = .ok (.invokevirtual 314, 3) := dk_182 1 58 (dk_at dksX2_all_0 1 rfl rfl)
theorem dX2_all_4 : decode cX2_all 4 = .ok (.astore_n 1, 1) := dk_76 (dk_at dksX2_all_0 4 rfl rfl)
theorem dX2_all_5 : decode cX2_all 5 = .ok (.aconst_null, 1) := dk_1 (dk_at dksX2_all_0 5 rfl rfl)
theorem dX2_all_6 : decode cX2_all 6 = .ok (.astore_n 2, 1) := dk_77 (dk_at dksX2_all_0 6 rfl rfl)
theorem dX2_all_7 : decode cX2_all 7 = .ok (.aload_n 0, 1) := dk_42 (dk_at dksX2_all_0 7 rfl rfl)
theorem dX2_all_8 : decode cX2_all 8 = .ok (.ldc 68, 2) := dk_18 68 (dk_at dksX2_all_0 8 rfl rfl)
theorem dX2_all_10 : decode cX2_all 10 = .ok (.invokevirtual 145, 3) := dk_182 0 145 (dk_at dksX2_all_0 10 rfl rfl)
theorem dX2_all_13 : decode cX2_all 13 = .ok (.ifCond .ne 12, 3) := dk_154 0 12 (dk_at dksX2_all_0 13 rfl rfl)
theorem dX2_all_16 : decode cX2_all 16 = .ok (.aload_n 0, 1) := dk_42 (dk_at dksX2_all_0 16 rfl rfl)
theorem dX2_all_17 : decode cX2_all 17 = .ok (.ldc 70, 2) := dk_18 70 (dk_at dksX2_all_0 17 rfl rfl)
theorem dX2_all_19 : decode cX2_all 19 = .ok (.invokevirtual 145, 3) := dk_182 0 145 (dk_at dksX2_all_0 19 rfl rfl)
theorem dX2_all_22 : decode cX2_all 22 = .ok (.ifCond .eq 68, 3) := dk_153 0 68 (dk_at dksX2_all_1 0 rfl rfl)
theorem dX2_all_25 : decode cX2_all 25 = .ok (.aload_n 0, 1) := dk_42 (dk_at dksX2_all_1 3 rfl rfl)
theorem dX2_all_26 : decode cX2_all 26 = .ok (.ldc 68, 2) := dk_18 68 (dk_at dksX2_all_1 4 rfl rfl)
theorem dX2_all_28 : decode cX2_all 28 = .ok (.invokevirtual 145, 3) := dk_182 0 145 (dk_at dksX2_all_1 6 rfl rfl)
theorem dX2_all_31 : decode cX2_all 31 = .ok (.istore_n 3, 1) := dk_62 (dk_at dksX2_all_1 9 rfl rfl)
theorem dX2_all_32 : decode cX2_all 32 = .ok (.aload_n 0, 1) := dk_42 (dk_at dksX2_all_1 10 rfl rfl)
theorem dX2_all_33 : decode cX2_all 33 = .ok (.dup, 1) := dk_89 (dk_at dksX2_all_1 11 rfl rfl)
theorem dX2_all_34 : decode cX2_all 34 = .ok (.getfield 134, 3) := dk_180 0 134 (dk_at dksX2_all_1 12 rfl rfl)
theorem dX2_all_37 : decode cX2_all 37 = .ok (.iconst 1, 1) := dk_4 (dk_at dksX2_all_1 15 rfl rfl)
theorem dX2_all_38 : decode cX2_all 38 = .ok (.iadd, 1) := dk_96 (dk_at dksX2_all_1 16 rfl rfl)
theorem dX2_all_39 : decode cX2_all 39 = .ok (.putfield 134, 3) := dk_181 0 134 (dk_at dksX2_all_1 17 rfl rfl)
theorem dX2_all_42 : decode cX2_all 42 = .ok (.aload_n 0, 1) := dk_42 (dk_at dksX2_all_1 20 rfl rfl)
theorem dX2_all_43 : decode cX2_all 43 = .ok (.invokevirtual 314, 3) := dk_182 1 58 (dk_at dksX2_all_1 21 rfl rfl)
theorem dX2_all_46 : decode cX2_all 46 = .ok (.astore 4, 2) := dk_58 4 (dk_at dksX2_all_2 0 rfl rfl)
theorem dX2_all_48 : decode cX2_all 48 = .ok (.aload_n 1, 1) := dk_43 (dk_at dksX2_all_2 2 rfl rfl)
theorem dX2_all_49 : decode cX2_all 49 = .ok (.aload_n 2, 1) := dk_44 (dk_at dksX2_all_2 3 rfl rfl)
theorem dX2_all_50 : decode cX2_all 50 = .ok (.invokestatic 317, 3) := dk_184 1 61 (dk_at dksX2_all_2 4 rfl rfl)
theorem dX2_all_53 : decode cX2_all 53 = .ok (.astore_n 2, 1) := dk_77 (dk_at dksX2_all_2 7 rfl rfl)
theorem dX2_all_54 : decode cX2_all 54 = .ok (.aload_n 2, 1) := dk_44 (dk_at dksX2_all_2 8 rfl rfl)
theorem dX2_all_55 : decode cX2_all 55 = .ok (.getfield 321, 3) := dk_180 1 65 (dk_at dksX2_all_2 9 rfl rfl)
theorem dX2_all_58 : decode cX2_all 58 = .ok (.iload_n 3, 1) := dk_29 (dk_at dksX2_all_2 12 rfl rfl)
theorem dX2_all_59 : decode cX2_all 59 = .ok (.ifCond .eq 15, 3) := dk_153 0 15 (dk_at dksX2_all_2 13 rfl rfl)
theorem dX2_all_62 : decode cX2_all 62 = .ok (.new 324, 3) := dk_187 1 68 (dk_at dksX2_all_2 16 rfl rfl)
theorem dX2_all_65 : decode cX2_all 65 = .ok (.dup, 1) := dk_89 (dk_at dksX2_all_2 19 rfl rfl)
theorem dX2_all_66 : decode cX2_all 66 = .ok (.aload 4, 2) := dk_25 4 (dk_at dksX2_all_2 20 rfl rfl)
theorem dX2_all_68 : decode cX2_all 68 = .ok (.invokespecial 326, 3) := dk_183 1 70 (dk_at dksX2_all_3 0 rfl rfl)
theorem dX2_all_71 : decode cX2_all 71 = .ok (.goto 12, 3) := dk_167 0 12 (dk_at dksX2_all_3 3 rfl rfl)
theorem dX2_all_74 : decode cX2_all 74 = .ok (.new 327, 3) := dk_187 1 71 (dk_at dksX2_all_3 6 rfl rfl)
theorem dX2_all_77 : decode cX2_all 77 = .ok (.dup, 1) := dk_89 (dk_at dksX2_all_3 9 rfl rfl)
theorem dX2_all_78 : decode cX2_all 78 = .ok (.aload 4, 2) := dk_25 4 (dk_at dksX2_all_3 10 rfl rfl)
theorem dX2_all_80 : decode cX2_all 80 = .ok (.invokespecial 329, 3) := dk_183 1 73 (dk_at dksX2_all_3 12 rfl rfl)
theorem dX2_all_83 : decode cX2_all 83 = .ok (.invokevirtual 214, 3) := dk_182 0 214 (dk_at dksX2_all_3 15 rfl rfl)
theorem dX2_all_86 : decode cX2_all 86 = .ok (.pop, 1) := dk_87 (dk_at dksX2_all_3 18 rfl rfl)
theorem dX2_all_87 : decode cX2_all 87 = .ok (.goto (-80), 3) := dk_167 255 176 (dk_at dksX2_all_3 19 rfl rfl)
theorem dX2_all_90 : decode cX2_all 90 = .ok (.aload_n 2, 1) := dk_44 (dk_at dksX2_all_3 22 rfl rfl)
theorem dX2_all_91 : decode cX2_all 91 = .ok (.ifnonnull 7, 3) := dk_199 0 7 (dk_at dksX2_all_4 0 rfl rfl)
theorem dX2_all_94 : decode cX2_all 94 = .ok (.aload_n 1, 1) := dk_43 (dk_at dksX2_all_4 3 rfl rfl)
theorem dX2_all_95 : decode cX2_all 95 = .ok (.goto 4, 3) := dk_167 0 4 (dk_at dksX2_all_4 4 rfl rfl)
theorem dX2_all_98 : decode cX2_all 98 = .ok (.aload_n 2, 1) := dk_44 (dk_at dksX2_all_4 7 rfl rfl)
theorem dX2_all_99 : decode cX2_all 99 = .ok (.areturn, 1) := dk_176 (dk_at dksX2_all_4 8 rfl rfl)
def dkwX2_test_3 : List UInt8 := [183, 1, 79, 167, 0, 11, 187, 1, 80, 89, 45, 183, 1, 82, 182, 0, 214, 87, 25, 4, 176]
abbrev dktX2_test_3 : List UInt8 := dkwX2_test_3 ++ []
def dkwX2_test_2 : List UInt8 := [187, 1, 53, 89, 43, 183, 1, 55, 58, 4, 25, 4, 180, 1, 65, 28, 153, 0, 14, 187, 1, 77, 89, 45]
abbrev dktX2_test_2 : List UInt8 := dkwX2_test_2 ++ dktX2_test_3
def dkwX2_test_1 : List UInt8 := [176, 42, 16, 60, 182, 0, 149, 61, 42, 89, 180, 0, 134, 4, 96, 181, 0, 134, 42, 182, 1, 74, 78]
abbrev dktX2_test_1 : List UInt8 := dkwX2_test_1 ++ dktX2_test_2
def dkwX2_test_0 : List UInt8 := [42, 182, 1, 74, 76, 42, 16, 60, 182, 0, 149, 154, 0, 14, 42, 16, 61, 182, 0, 149, 154, 0, 5, 43]
abbrev dktX2_test_0 : List UInt8 := dkwX2_test_0 ++ dktX2_test_1
theorem dksX2_test_0 : cX2_test.data.toList.drop 0 = dktX2_test_0 := by decide +kernel
theorem dksX2_test_1 : cX2_test.data.toList.drop 24 = dktX2_test_1 := dk_seg dksX2_test_0 24 rfl rfl
theorem dksX2_test_2 : cX2_test.data.toList.drop 47 = dktX2_test_2 := dk_seg dksX2_test_1 23 rfl rfl
theorem dksX2_test_3 : cX2_test.data.toList.drop 71 = dktX2_test_3 := dk_seg dksX2_test_2 24 rfl rfl
theorem dX2_test_0 : decode cX2_test 0 = .ok (.aload_n 0, 1) := dk_42 (dk_at dksX2_test_0 0 rfl rfl)
theorem dX2_test_1 : decode cX2_test 1 = .ok (.invokevirtual 330, 3) := dk_182 1 74 (dk_at dksX2_test_0 1 rfl rfl)
theorem dX2_test_4 : decode cX2_test 4 = .ok (.astore_n 1, 1) := dk_76 (dk_at dksX2_test_0 4 rfl rfl)
theorem dX2_test_5 : decode cX2_test 5 = .ok (.aload_n 0, 1) := dk_42 (dk_at dksX2_test_0 5 rfl rfl)
theorem dX2_test_6 : decode cX2_test 6 = .ok (.bipush 60, 2) := dk_16 60 (dk_at dksX2_test_0 6 rfl rfl)
theorem dX2_test_8 : decode cX2_test 8 = .ok (.invokevirtual 149, 3) := dk_182 0 149 (dk_at dksX2_test_0 8 rfl rfl)
theorem dX2_test_11 : decode cX2_test 11 = .ok (.ifCond .ne 14, 3) := dk_154 0 14 (dk_at dksX2_test_0 11 rfl rfl)
theorem dX2_test_14 : decode cX2_test 14 = .ok (.aload_n 0, 1) := dk_42 (dk_at dksX2_test_0 14 rfl rfl)
theorem dX2_test_15 : decode cX2_test 15 = .ok (.bipush 61, 2) := dk_16 61 (dk_at dksX2_test_0 15 rfl rfl)
theorem dX2_test_17 : decode cX2_test 17 = .ok (.invokevirtual 149, 3) := dk_182 0 149 (dk_at dksX2_test_0 17 rfl rfl)
theorem dX2_test_20 : decode cX2_test 20 = .ok (.ifCond .ne 5, 3) := dk_154 0 5 (dk_at dksX2_test_0 20 rfl rfl)
theorem dX2_test_23 : decode cX2_test 23 = .ok (.aload_n 1, 1) := dk_43 (dk_at dksX2_test_0 23 rfl rfl)
theorem dX2_test_24 : decode cX2_test 24 = .ok (.areturn, 1) := dk_176 (dk_at dksX2_test_1 0 rfl rfl)
theorem dX2_test_25 : decode cX2_test 25 = .ok (.aload_n 0, 1) := dk_42 (dk_at dksX2_test_1 1 rfl rfl)
theorem dX2_test_26 : decode cX2_test 26 = .ok (.bipush 60, 2) := dk_16 60 (dk_at dksX2_test_1 2 rfl rfl)
theorem dX2_test_28 : decode cX2_test 28 = .ok (.invokevirtual 149, 3) := dk_182 0 149 (dk_at dksX2_test_1 4 rfl rfl)
theorem dX2_test_31 : decode cX2_test 31 = .ok (.istore_n 2, 1) := dk_61 (dk_at dksX2_test_1 7 rfl rfl)
theorem dX2_test_32 : decode cX2_test 32 = .ok (.aload_n 0, 1) := dk_42 (dk_at dksX2_test_1 8 rfl rfl)
theorem dX2_test_33 : decode cX2_test 33 = .ok (.dup, 1) := dk_89 (dk_at dksX2_test_1 9 rfl rfl)
theorem dX2_test_34 : decode cX2_test 34 = .ok (.getfield 134, 3) := dk_180 0 134 (dk_at dksX2_test_1 10 rfl rfl)
theorem dX2_test_37 : decode cX2_test 37 = .ok (.iconst 1, 1) := dk_4 (dk_at dksX2_test_1 13 rfl rfl)
theorem dX2_test_38 : decode cX2_test 38 = .ok (.iadd, 1) := dk_96 (dk_at dksX2_test_1 14 rfl rfl)
theorem dX2_test_39 : decode cX2_test 39 = .ok (.putfield 134, 3) := dk_181 0 134 (dk_at dksX2_test_1 15 rfl rfl)
theorem dX2_test_42 : decode cX2_test 42 = .ok (.aload_n 0, 1) := dk_42 (dk_at dksX2_test_1 18 rfl rfl)
theorem dX2_test_43 : decode cX2_test 43 = .ok (.invokevirtual 330, 3) := dk_182 1 74 (dk_at dksX2_test_1 19 rfl rfl)
theorem dX2_test_46 : decode cX2_test 46 = .ok (.astore_n 3, 1) := dk_78 (dk_at dksX2_test_1 22 rfl rfl)
theorem dX2_test_47 : decode cX2_test 47 = .ok (.new 309, 3) := dk_187 1 53 (dk_at dksX2_test_2 0 rfl rfl)
theorem dX2_test_50 : decode cX2_test 50 = .ok (.dup, 1) := dk_89 (dk_at dksX2_test_2 3 rfl rfl)
theorem dX2_test_51 : decode cX2_test 51 = .ok (.aload_n 1, 1) := dk_43 (dk_at dksX2_test_2 4 rfl rfl)
theorem dX2_test_52 : decode cX2_test 52 = .ok (.invokespecial 311, 3) := dk_183 1 55 (dk_at dksX2_test_2 5 rfl rfl)
theorem dX2_test_55 : decode cX2_test 55 = .ok (.astore 4, 2) := dk_58 4 (dk_at dksX2_test_2 8 rfl rfl)
theorem dX2_test_57 : decode cX2_test 57 = .ok (.aload 4, 2) := dk_25 4 (dk_at dksX2_test_2 10 rfl rfl)
theorem dX2_test_59 : decode cX2_test 59 = .ok (.getfield 321, 3) := dk_180 1 65 (dk_at dksX2_test_2 12 rfl rfl)
theorem dX2_test_62 : decode cX2_test 62 = .ok (.iload_n 2, 1) := dk_28 (dk_at dksX2_test_2 15 rfl rfl)
theorem dX2_test_63 : decode cX2_test 63 = .ok (.ifCond .eq 14, 3) := dk_153 0 14 (dk_at dksX2_test_2 16 rfl rfl)
theorem dX2_test_66 : decode cX2_test 66 = .ok (.new 333, 3) := dk_187 1 77 (dk_at dksX2_test_2 19 rfl rfl)
theorem dX2_test_69 : decode cX2_test 69 = .ok (.dup, 1) := dk_89 (dk_at dksX2_test_2 22 rfl rfl)
theorem dX2_test_70 : decode cX2_test 70 = .ok (.aload_n 3, 1) := dk_45 (dk_at dksX2_test_2 23 rfl rfl)
theorem dX2_test_71 : decode cX2_test 71 = .ok (.invokespecial 335, 3) := dk_183 1 79 (dk_at dksX2_test_3 0 rfl rfl)
theorem dX2_test_74 : decode cX2_test 74 = .ok (.goto 11, 3) := dk_167 0 11 (dk_at dksX2_test_3 3 rfl rfl)
theorem dX2_test_77 : decode cX2_test 77 = .ok (.new 336, 3) := dk_187 1 80 (dk_at dksX2_test_3 6 rfl rfl)
theorem dX2_test_80 : decode cX2_test 80 = .ok (.dup, 1) := dk_89 (dk_at dksX2_test_3 9 rfl rfl)
theorem dX2_test_81 : decode cX2_test 81 = .ok (.aload_n 3, 1) := dk_45 (dk_at dksX2_test_3 10 rfl rfl)
theorem dX2_test_82 : decode cX2_test 82 = .ok (.invokespecial 338, 3) := dk_183 1 82 (dk_at dksX2_test_3 11 rfl rfl)
theorem dX2_test_85 : decode cX2_test 85 = .ok (.invokevirtual 214, 3) := dk_182 0 214 (dk_at dksX2_test_3 14 rfl rfl)
theorem dX2_test_88 : decode cX2_test 88 = .ok (.pop, 1) := dk_87 (dk_at dksX2_test_3 17 rfl rfl)
theorem dX2_test_89 : decode cX2_test 89 = .ok (.aload 4, 2) := dk_25 4 (dk_at dksX2_test_3 18 rfl rfl)
theorem dX2_test_91 : decode cX2_test 91 = .ok (.areturn, 1) := dk_176 (dk_at dksX2_test_3 20 rfl rfl)
def dkwX2_sum_4 : List UInt8 := [199, 0, 7, 43, 167, 0, 4, 44, 176]
abbrev dktX2_sum_4 : List UInt8 := dkwX2_sum_4 ++ []
def dkwX2_sum_3 : List UInt8 := [183, 1, 88, 167, 0, 12, 187, 1, 89, 89, 25, 4, 183, 1, 91, 182, 0, 214, 87, 167, 255, 176, 44]
abbrev dktX2_sum_3 : List UInt8 := dkwX2_sum_3 ++ dktX2_sum_4
def dkwX2_sum_2 : List UInt8 := [58, 4, 43, 44, 184, 1, 61, 77, 44, 180, 1, 65, 29, 153, 0, 15, 187, 1, 86, 89, 25, 4]
abbrev dktX2_sum_2 : List UInt8 := dkwX2_sum_2 ++ dktX2_sum_3
def dkwX2_sum_1 : List UInt8 := [153, 0, 68, 42, 16, 43, 182, 0, 149, 62, 42, 89, 180, 0, 134, 4, 96, 181, 0, 134, 42, 182, 1, 83]
abbrev dktX2_sum_1 : List UInt8 := dkwX2_sum_1 ++ dktX2_sum_2
def dkwX2_sum_0 : List UInt8 := [42, 182, 1, 83, 76, 1, 77, 42, 16, 43, 182, 0, 149, 154, 0, 12, 42, 16, 45, 182, 0, 149]
abbrev dktX2_sum_0 : List UInt8 := dkwX2_sum_0 ++ dktX2_sum_1
theorem dksX2_sum_0 : cX2_sum.data.toList.drop 0 = dktX2_sum_0 := by decide +kernel
theorem dksX2_sum_1 : cX2_sum.data.toList.drop 22 = dktX2_sum_1 := dk_seg dksX2_sum_0 22 rfl rfl
theorem dksX2_sum_2 : cX2_sum.data.toList.drop 46 = dktX2_sum_2 := dk_seg dksX2_sum_1 24 rfl rfl
theorem dksX2_sum_3 : cX2_sum.data.toList.drop 68 = dktX2_sum_3 := dk_seg dksX2_sum_2 22 rfl rfl
theorem dksX2_sum_4 : cX2_sum.data.toList.drop 91 = dktX2_sum_4 := dk_seg dksX2_sum_3 23 rfl rfl
theorem dX2_sum_0 : decode cX2_sum 0 = .ok (.aload_n 0, 1) := dk_42 (dk_at dksX2_sum_0 0 rfl rfl)
theorem dX2_sum_1 : decode cX2_sum 1 = .ok (.invokevirtual 339, 3) := dk_182 1 83 (dk_at dksX2_sum_0 1 rfl rfl)
theorem dX2_sum_4 : decode cX2_sum 4 = .ok (.astore_n 1, 1) := dk_76 (dk_at dksX2_sum_0 4 rfl rfl)
theorem dX2_sum_5 : decode cX2_sum 5 = .ok (.aconst_null, 1) := dk_1 (dk_at dksX2_sum_0 5 rfl rfl)
theorem dX2_sum_6 : decode cX2_sum 6 = .ok (.astore_n 2, 1) := dk_77 (dk_at dksX2_sum_0 6 rfl rfl)
theorem dX2_sum_7 : decode cX2_sum 7 = .ok (.aload_n 0, 1) := dk_42 (dk_at dksX2_sum_0 7 rfl rfl)
theorem dX2_sum_8 : decode cX2_sum 8 = .ok (.bipush 43, 2) := dk_16 43 (dk_at dksX2_sum_0 8 rfl rfl)
theorem dX2_sum_10 : decode cX2_sum 10 = .ok (.invokevirtual 149, 3) := dk_182 0 149 (dk_at dksX2_sum_0 10 rfl rfl)
theorem dX2_sum_13 : decode cX2_sum 13 = .ok (.ifCond .ne 12, 3) := dk_154 0 12 (dk_at dksX2_sum_0 13 rfl rfl)
theorem dX2_sum_16 : decode cX2_sum 16 = .ok (.aload_n 0, 1) := dk_42 (dk_at dksX2_sum_0 16 rfl rfl)
theorem dX2_sum_17 : decode cX2_sum 17 = .ok (.bipush 45, 2) := dk_16 45 (dk_at dksX2_sum_0 17 rfl rfl)
theorem dX2_sum_19 : decode cX2_sum 19 = .ok (.invokevirtual 149, 3) := dk_182 0 149 (dk_at dksX2_sum_0 19 rfl rfl)
theorem dX2_sum_22 : decode cX2_sum 22 = .ok (.ifCond .eq 68, 3) := dk_153 0 68 (dk_at dksX2_sum_1 0 rfl rfl)
theorem dX2_sum_25 : decode cX2_sum 25 = .ok (.aload_n 0, 1) := dk_42 (dk_at dksX2_sum_1 3 rfl rfl)
theorem dX2_sum_26 : decode cX2_sum 26 = .ok (.bipush 43, 2) := dk_16 43 (dk_at dksX2_sum_1 4 rfl rfl)
theorem dX2_sum_28 : decode cX2_sum 28 = .ok (.invokevirtual 149, 3) := dk_182 0 149 (dk_at dksX2_sum_1 6 rfl rfl)
theorem dX2_sum_31 : decode cX2_sum 31 = .ok (.istore_n 3, 1) := dk_62 (dk_at dksX2_sum_1 9 rfl rfl)
theorem dX2_sum_32 : decode cX2_sum 32 = .ok (.aload_n 0, 1) := dk_42 (dk_at dksX2_sum_1 10 rfl rfl)
theorem dX2_sum_33 : decode cX2_sum 33 = .ok (.dup, 1) := dk_89 (dk_at dksX2_sum_1 11 rfl rfl)
theorem dX2_sum_34 : decode cX2_sum 34 = .ok (.getfield 134, 3) := dk_180 0 134 (dk_at dksX2_sum_1 12 rfl rfl)
theorem dX2_sum_37 : decode cX2_sum 37 = .ok (.iconst 1, 1) := dk_4 (dk_at dksX2_sum_1 15 rfl rfl)
theorem dX2_sum_38 : decode cX2_sum 38 = .ok (.iadd, 1) := dk_96 (dk_at dksX2_sum_1 16 rfl rfl)
theorem dX2_sum_39 : decode cX2_sum 39 = .ok (.putfield 134, 3) := dk_181 0 134 (dk_at dksX2_sum_1 17 rfl rfl)
theorem dX2_sum_42 : decode cX2_sum 42 = .ok (.aload_n 0, 1) := dk_42 (dk_at dksX2_sum_1 20 rfl rfl)
theorem dX2_sum_43 : decode cX2_sum 43 = .ok (.invokevirtual 339, 3) := dk_182 1 83 (dk_at dksX2_sum_1 21 rfl rfl)
theorem dX2_sum_46 : decode cX2_sum 46 = .ok (.astore 4, 2) := dk_58 4 (dk_at dksX2_sum_2 0 rfl rfl)
theorem dX2_sum_48 : decode cX2_sum 48 = .ok (.aload_n 1, 1) := dk_43 (dk_at dksX2_sum_2 2 rfl rfl)
theorem dX2_sum_49 : decode cX2_sum 49 = .ok (.aload_n 2, 1) := dk_44 (dk_at dksX2_sum_2 3 rfl rfl)
theorem dX2_sum_50 : decode cX2_sum 50 = .ok (.invokestatic 317, 3) := dk_184 1 61 (dk_at dksX2_sum_2 4 rfl rfl)
theorem dX2_sum_53 : decode cX2_sum 53 = .ok (.astore_n 2, 1) := dk_77 (dk_at dksX2_sum_2 7 rfl rfl)
theorem dX2_sum_54 : decode cX2_sum 54 = .ok (.aload_n 2, 1) := dk_44 (dk_at dksX2_sum_2 8 rfl rfl)
theorem dX2_sum_55 : decode cX2_sum 55 = .ok (.getfield 321, 3) := dk_180 1 65 (dk_at dksX2_sum_2 9 rfl rfl)
theorem dX2_sum_58 : decode cX2_sum 58 = .ok (.iload_n 3, 1) := dk_29 (dk_at dksX2_sum_2 12 rfl rfl)
theorem dX2_sum_59 : decode cX2_sum 59 = .ok (.ifCond .eq 15, 3) := dk_153 0 15 (dk_at dksX2_sum_2 13 rfl rfl)
theorem dX2_sum_62 : decode cX2_sum 62 = .ok (.new 342, 3) := dk_187 1 86 (dk_at dksX2_sum_2 16 rfl rfl)
theorem dX2_sum_65 : decode cX2_sum 65 = .ok (.dup, 1) := dk_89 (dk_at dksX2_sum_2 19 rfl rfl)
theorem dX2_sum_66 : decode cX2_sum 66 = .ok (.aload 4, 2) := dk_25 4 (dk_at dksX2_sum_2 20 rfl rfl)
theorem dX2_sum_68 : decode cX2_sum 68 = .ok (.invokespecial 344, 3) := dk_183 1 88 (dk_at dksX2_sum_3 0 rfl rfl)
theorem dX2_sum_71 : decode cX2_sum 71 = .ok (.goto 12, 3) := dk_167 0 12 (dk_at dksX2_sum_3 3 rfl rfl)
theorem dX2_sum_74 : decode cX2_sum 74 = .ok (.new 345, 3) := dk_187 1 89 (dk_at dksX2_sum_3 6 rfl rfl)
theorem dX2_sum_77 : decode cX2_sum 77 = .ok (.dup, 1) := dk_89 (dk_at dksX2_sum_3 9 rfl rfl)
theorem dX2_sum_78 : decode cX2_sum 78 = .ok (.aload 4, 2) := dk_25 4 (dk_at dksX2_sum_3 10 rfl rfl)
theorem dX2_sum_80 : decode cX2_sum 80 = .ok (.invokespecial 347, 3) := dk_183 1 91 (dk_at dksX2_sum_3 12 rfl rfl)
theorem dX2_sum_83 : decode cX2_sum 83 = .ok (.invokevirtual 214, 3) := dk_182 0 214 (dk_at dksX2_sum_3 15 rfl rfl)
theorem dX2_sum_86 : decode cX2_sum 86 = .ok (.pop, 1) := dk_87 (dk_at dksX2_sum_3 18 rfl rfl)
theorem dX2_sum_87 : decode cX2_sum 87 = .ok (.goto (-80), 3) := dk_167 255 176 (dk_at dksX2_sum_3 19 rfl rfl)
theorem dX2_sum_90 : decode cX2_sum 90 = .ok (.aload_n 2, 1) := dk_44 (dk_at dksX2_sum_3 22 rfl rfl)
theorem dX2_sum_91 : decode cX2_sum 91 = .ok (.ifnonnull 7, 3) := dk_199 0 7 (dk_at dksX2_sum_4 0 rfl rfl)
theorem dX2_sum_94 : decode cX2_sum 94 = .ok (.aload_n 1, 1) := dk_43 (dk_at dksX2_sum_4 3 rfl rfl)
theorem dX2_sum_95 : decode cX2_sum 95 = .ok (.goto 4, 3) := dk_167 0 4 (dk_at dksX2_sum_4 4 rfl rfl)
theorem dX2_sum_98 : decode cX2_sum 98 = .ok (.aload_n 2, 1) := dk_44 (dk_at dksX2_sum_4 7 rfl rfl)
theorem dX2_sum_99 : decode cX2_sum 99 = .ok (.areturn, 1) := dk_176 (dk_at dksX2_sum_4 8 rfl rfl)
def dkwX2_term_2 : List UInt8 := [199, 0, 7, 43, 167, 0, 4, 44, 176]
abbrev dktX2_term_2 : List UInt8 := dkwX2_term_2 ++ []
def dkwX2_term_1 : List UInt8 := [184, 1, 61, 77, 44, 180, 1, 65, 187, 1, 95, 89, 45, 183, 1, 97, 182, 0, 214, 87, 167, 255, 220, 44]
abbrev dktX2_term_1 : List UInt8 := dkwX2_term_1 ++ dktX2_term_2
def dkwX2_term_0 : List UInt8 := [42, 182, 1, 92, 76, 1, 77, 42, 16, 42, 182, 0, 152, 153, 0, 33, 42, 182, 1, 92, 78, 43, 44]
abbrev dktX2_term_0 : List UInt8 := dkwX2_term_0 ++ dktX2_term_1
theorem dksX2_term_0 : cX2_term.data.toList.drop 0 = dktX2_term_0 := by decide +kernel
theorem dksX2_term_1 : cX2_term.data.toList.drop 23 = dktX2_term_1 := dk_seg dksX2_term_0 23 rfl rfl
theorem dksX2_term_2 : cX2_term.data.toList.drop 47 = dktX2_term_2 := dk_seg dksX2_term_1 24 rfl rfl
theorem dX2_term_0 : decode cX2_term 0 = .ok (.aload_n 0, 1) := dk_42 (dk_at dksX2_term_0 0 rfl rfl)
theorem dX2_term_1 : decode cX2_term 1 = .ok (.invokevirtual 348, 3) := dk_182 1 92 (dk_at dksX2_term_0 1 rfl rfl)
theorem dX2_term_4 : decode cX2_term 4 = .ok (.astore_n 1, 1) := dk_76 (dk_at dksX2_term_0 4 rfl rfl)
theorem dX2_term_5 : decode cX2_term 5 = .ok (.aconst_null, 1) := dk_1 (dk_at dksX2_term_0 5 rfl rfl)
theorem dX2_term_6 : decode cX2_term 6 = .ok (.astore_n 2, 1) := dk_77 (dk_at dksX2_term_0 6 rfl rfl)
theorem dX2_term_7 : decode cX2_term 7 = .ok (.aload_n 0, 1) := dk_42 (dk_at dksX2_term_0 7 rfl rfl)
theorem dX2_term_8 : decode cX2_term 8 = .ok (.bipush 42, 2) := dk_16 42 (dk_at dksX2_term_0 8 rfl rfl)
theorem dX2_term_10 : decode cX2_term 10 = .ok (.invokevirtual 152, 3) := dk_182 0 152 (dk_at dksX2_term_0 10 rfl rfl)
theorem dX2_term_13 : decode cX2_term 13 = .ok (.ifCond .eq 33, 3) := dk_153 0 33 (dk_at dksX2_term_0 13 rfl rfl)
theorem dX2_term_16 : decode cX2_term 16 = .ok (.aload_n 0, 1) := dk_42 (dk_at dksX2_term_0 16 rfl rfl)
theorem dX2_term_17 : decode cX2_term 17 = .ok (.invokevirtual 348, 3) := dk_182 1 92 (dk_at dksX2_term_0 17 rfl rfl)
theorem dX2_term_20 : decode cX2_term 20 = .ok (.astore_n 3, 1) := dk_78 (dk_at dksX2_term_0 20 rfl rfl)
theorem dX2_term_21 : decode cX2_term 21 = .ok (.aload_n 1, 1) := dk_43 (dk_at dksX2_term_0 21 rfl rfl)
theorem dX2_term_22 : decode cX2_term 22 = .ok (.aload_n 2, 1) := dk_44 (dk_at dksX2_term_0 22 rfl rfl)
theorem dX2_term_23 : decode cX2_term 23 = .ok (.invokestatic 317, 3) := dk_184 1 61 (dk_at dksX2_term_1 0 rfl rfl)
theorem dX2_term_26 : decode cX2_term 26 = .ok (.astore_n 2, 1) := dk_77 (dk_at dksX2_term_1 3 rfl rfl)
theorem dX2_term_27 : decode cX2_term 27 = .ok (.aload_n 2, 1) := dk_44 (dk_at dksX2_term_1 4 rfl rfl)
theorem dX2_term_28 : decode cX2_term 28 = .ok (.getfield 321, 3) := dk_180 1 65 (dk_at dksX2_term_1 5 rfl rfl)
theorem dX2_term_31 : decode cX2_term 31 = .ok (.new 351, 3) := dk_187 1 95 (dk_at dksX2_term_1 8 rfl rfl)
theorem dX2_term_34 : decode cX2_term 34 = .ok (.dup, 1) := dk_89 (dk_at dksX2_term_1 11 rfl rfl)
theorem dX2_term_35 : decode cX2_term 35 = .ok (.aload_n 3, 1) := dk_45 (dk_at dksX2_term_1 12 rfl rfl)
theorem dX2_term_36 : decode cX2_term 36 = .ok (.invokespecial 353, 3) := dk_183 1 97 (dk_at dksX2_term_1 13 rfl rfl)
theorem dX2_term_39 : decode cX2_term 39 = .ok (.invokevirtual 214, 3) := dk_182 0 214 (dk_at dksX2_term_1 16 rfl rfl)
theorem dX2_term_42 : decode cX2_term 42 = .ok (.pop, 1) := dk_87 (dk_at dksX2_term_1 19 rfl rfl)
theorem dX2_term_43 : decode cX2_term 43 = .ok (.goto (-36), 3) := dk_167 255 220 (dk_at dksX2_term_1 20 rfl rfl)
theorem dX2_term_46 : decode cX2_term 46 = .ok (.aload_n 2, 1) := dk_44 (dk_at dksX2_term_1 23 rfl rfl)
theorem dX2_term_47 : decode cX2_term 47 = .ok (.ifnonnull 7, 3) := dk_199 0 7 (dk_at dksX2_term_2 0 rfl rfl)
theorem dX2_term_50 : decode cX2_term 50 = .ok (.aload_n 1, 1) := dk_43 (dk_at dksX2_term_2 3 rfl rfl)
theorem dX2_term_51 : decode cX2_term 51 = .ok (.goto 4, 3) := dk_167 0 4 (dk_at dksX2_term_2 4 rfl rfl)
theorem dX2_term_54 : decode cX2_term 54 = .ok (.aload_n 2, 1) := dk_44 (dk_at dksX2_term_2 7 rfl rfl)
theorem dX2_term_55 : decode cX2_term 55 = .ok (.areturn, 1) := dk_176 (dk_at dksX2_term_2 8 rfl rfl)
def dkwX2_part_8 : List UInt8 := [45, 176]
abbrev dktX2_part_8 : List UInt8 := dkwX2_part_8 ++ []
def dkwX2_part_7 : List UInt8 := [182, 1, 50, 78, 28, 154, 0, 9, 42, 16, 41, 182, 0, 185, 42, 89, 180, 1, 47, 4, 100, 181, 1, 47]
abbrev dktX2_part_7 : List UInt8 := dkwX2_part_7 ++ dktX2_part_8
def dkwX2_part_6 : List UInt8 := [181, 1, 47, 28, 153, 0, 17, 187, 1, 104, 89, 42, 182, 1, 92, 183, 1, 106, 167, 0, 7, 42]
abbrev dktX2_part_6 : List UInt8 := dkwX2_part_6 ++ dktX2_part_7
def dkwX2_part_5 : List UInt8 := [180, 0, 88, 42, 180, 0, 134, 4, 100, 47, 136, 183, 1, 103, 176, 42, 89, 180, 1, 47, 4, 96]
abbrev dktX2_part_5 : List UInt8 := dkwX2_part_5 ++ dktX2_part_6
def dkwX2_part_4 : List UInt8 := [154, 0, 38, 42, 180, 0, 85, 42, 180, 0, 134, 4, 100, 46, 5, 160, 0, 23, 187, 1, 101, 89, 42]
abbrev dktX2_part_4 : List UInt8 := dkwX2_part_4 ++ dktX2_part_5
def dkwX2_part_3 : List UInt8 := [89, 180, 0, 134, 4, 96, 181, 0, 134, 27, 2, 159, 0, 12, 187, 1, 98, 89, 27, 183, 1, 100, 176, 28]
abbrev dktX2_part_3 : List UInt8 := dkwX2_part_3 ++ dktX2_part_4
def dkwX2_part_2 : List UInt8 := [154, 0, 9, 42, 4, 182, 0, 155, 191, 42, 180, 1, 47, 8, 160, 0, 9, 42, 8, 182, 0, 155, 191, 42]
abbrev dktX2_part_2 : List UInt8 := dkwX2_part_2 ++ dktX2_part_3
def dkwX2_part_1 : List UInt8 := [154, 0, 31, 42, 180, 0, 85, 42, 180, 0, 134, 46, 5, 159, 0, 18, 42, 16, 40, 182, 0, 149]
abbrev dktX2_part_1 : List UInt8 := dkwX2_part_1 ++ dktX2_part_2
def dkwX2_part_0 : List UInt8 := [42, 42, 180, 0, 21, 182, 0, 159, 60, 42, 18, 66, 182, 0, 145, 61, 27, 2, 160, 0, 35, 28]
abbrev dktX2_part_0 : List UInt8 := dkwX2_part_0 ++ dktX2_part_1
theorem dksX2_part_0 : cX2_part.data.toList.drop 0 = dktX2_part_0 := by decide +kernel
theorem dksX2_part_1 : cX2_part.data.toList.drop 22 = dktX2_part_1 := dk_seg dksX2_part_0 22 rfl rfl
theorem dksX2_part_2 : cX2_part.data.toList.drop 44 = dktX2_part_2 := dk_seg dksX2_part_1 22 rfl rfl
theorem dksX2_part_3 : cX2_part.data.toList.drop 68 = dktX2_part_3 := dk_seg dksX2_part_2 24 rfl rfl
theorem dksX2_part_4 : cX2_part.data.toList.drop 92 = dktX2_part_4 := dk_seg dksX2_part_3 24 rfl rfl
theorem dksX2_part_5 : cX2_part.data.toList.drop 115 = dktX2_part_5 := dk_seg dksX2_part_4 23 rfl rfl
theorem dksX2_part_6 : cX2_part.data.toList.drop 137 = dktX2_part_6 := dk_seg dksX2_part_5 22 rfl rfl
theorem dksX2_part_7 : cX2_part.data.toList.drop 159 = dktX2_part_7 := dk_seg dksX2_part_6 22 rfl rfl
theorem dksX2_part_8 : cX2_part.data.toList.drop 183 = dktX2_part_8 := dk_seg dksX2_part_7 24 rfl rfl
theorem dX2_part_0 : decode cX2_part 0 = .ok (.aload_n 0, 1) := dk_42 (dk_at dksX2_part_0 0 rfl rfl)
theorem dX2_part_1 : decode cX2_part 1 = .ok (.aload_n 0, 1) := dk_42 (dk_at dksX2_part_0 1 rfl rfl)
theorem dX2_part_2 : decode cX2_part 2 = .ok (.getfield 21, 3) := dk_180 0 21 (dk_at dksX2_part_0 2 rfl rfl)
theorem dX2_part_5 : decode cX2_part 5 = .ok (.invokevirtual 159, 3) := dk_182 0 159 (dk_at dksX2_part_0 5 rfl rfl)
theorem dX2_part_8 : decode cX2_part 8 = .ok (.istore_n 1, 1) := dk_60 (dk_at dksX2_part_0 8 rfl rfl)
theorem dX2_part_9 : decode cX2_part 9 = .ok (.aload_n 0, 1) := dk_42 (dk_at dksX2_part_0 9 rfl rfl)
theorem dX2_part_10 : decode cX2_part 10 = .ok (.ldc 66, 2) := dk_18 66 (dk_at dksX2_part_0 10 rfl rfl)
theorem dX2_part_12 : decode cX2_part 12 = .ok (.invokevirtual 145, 3) := dk_182 0 145 (dk_at dksX2_part_0 12 rfl rfl)
theorem dX2_part_15 : decode cX2_part 15 = .ok (.istore_n 2, 1) := dk_61 (dk_at dksX2_part_0 15 rfl rfl)
theorem dX2_part_16 : decode cX2_part 16 = .ok (.iload_n 1, 1) := dk_27 (dk_at dksX2_part_0 16 rfl rfl)
theorem dX2_part_17 : decode cX2_part 17 = .ok (.iconst (-1), 1) := dk_2 (dk_at dksX2_part_0 17 rfl rfl)
theorem dX2_part_18 : decode cX2_part 18 = .ok (.if_icmp .ne 35, 3) := dk_160 0 35 (dk_at dksX2_part_0 18 rfl rfl)
theorem dX2_part_21 : decode cX2_part 21 = .ok (.iload_n 2, 1) := dk_28 (dk_at dksX2_part_0 21 rfl rfl)
theorem dX2_part_22 : decode cX2_part 22 = .ok (.ifCond .ne 31, 3) := dk_154 0 31 (dk_at dksX2_part_1 0 rfl rfl)
theorem dX2_part_25 : decode cX2_part 25 = .ok (.aload_n 0, 1) := dk_42 (dk_at dksX2_part_1 3 rfl rfl)
theorem dX2_part_26 : decode cX2_part 26 = .ok (.getfield 85, 3) := dk_180 0 85 (dk_at dksX2_part_1 4 rfl rfl)
theorem dX2_part_29 : decode cX2_part 29 = .ok (.aload_n 0, 1) := dk_42 (dk_at dksX2_part_1 7 rfl rfl)
theorem dX2_part_30 : decode cX2_part 30 = .ok (.getfield 134, 3) := dk_180 0 134 (dk_at dksX2_part_1 8 rfl rfl)
theorem dX2_part_33 : decode cX2_part 33 = .ok (.iaload, 1) := dk_46 (dk_at dksX2_part_1 11 rfl rfl)
theorem dX2_part_34 : decode cX2_part 34 = .ok (.iconst 2, 1) := dk_5 (dk_at dksX2_part_1 12 rfl rfl)
theorem dX2_part_35 : decode cX2_part 35 = .ok (.if_icmp .eq 18, 3) := dk_159 0 18 (dk_at dksX2_part_1 13 rfl rfl)
theorem dX2_part_38 : decode cX2_part 38 = .ok (.aload_n 0, 1) := dk_42 (dk_at dksX2_part_1 16 rfl rfl)
theorem dX2_part_39 : decode cX2_part 39 = .ok (.bipush 40, 2) := dk_16 40 (dk_at dksX2_part_1 17 rfl rfl)
theorem dX2_part_41 : decode cX2_part 41 = .ok (.invokevirtual 149, 3) := dk_182 0 149 (dk_at dksX2_part_1 19 rfl rfl)
theorem dX2_part_44 : decode cX2_part 44 = .ok (.ifCond .ne 9, 3) := dk_154 0 9 (dk_at dksX2_part_2 0 rfl rfl)
theorem dX2_part_47 : decode cX2_part 47 = .ok (.aload_n 0, 1) := dk_42 (dk_at dksX2_part_2 3 rfl rfl)
theorem dX2_part_48 : decode cX2_part 48 = .ok (.iconst 1, 1) := dk_4 (dk_at dksX2_part_2 4 rfl rfl)
theorem dX2_part_49 : decode cX2_part 49 = .ok (.invokevirtual 155, 3) := dk_182 0 155 (dk_at dksX2_part_2 5 rfl rfl)
theorem dX2_part_52 : decode cX2_part 52 = .ok (.athrow, 1) := dk_191 (dk_at dksX2_part_2 8 rfl rfl)
theorem dX2_part_53 : decode cX2_part 53 = .ok (.aload_n 0, 1) := dk_42 (dk_at dksX2_part_2 9 rfl rfl)
theorem dX2_part_54 : decode cX2_part 54 = .ok (.getfield 303, 3) := dk_180 1 47 (dk_at dksX2_part_2 10 rfl rfl)
theorem dX2_part_57 : decode cX2_part 57 = .ok (.iconst 5, 1) := dk_8 (dk_at dksX2_part_2 13 rfl rfl)
theorem dX2_part_58 : decode cX2_part 58 = .ok (.if_icmp .ne 9, 3) := dk_160 0 9 (dk_at dksX2_part_2 14 rfl rfl)
theorem dX2_part_61 : decode cX2_part 61 = .ok (.aload_n 0, 1) := dk_42 (dk_at dksX2_part_2 17 rfl rfl)
theorem dX2_part_62 : decode cX2_part 62 = .ok (.iconst 5, 1) := dk_8 (dk_at dksX2_part_2 18 rfl rfl)
theorem dX2_part_63 : decode cX2_part 63 = .ok (.invokevirtual 155, 3) := dk_182 0 155 (dk_at dksX2_part_2 19 rfl rfl)
theorem dX2_part_66 : decode cX2_part 66 = .ok (.athrow, 1) := dk_191 (dk_at dksX2_part_2 22 rfl rfl)
theorem dX2_part_67 : decode cX2_part 67 = .ok (.aload_n 0, 1) := dk_42 (dk_at dksX2_part_2 23 rfl rfl)
theorem dX2_part_68 : decode cX2_part 68 = .ok (.dup, 1) := dk_89 (dk_at dksX2_part_3 0 rfl rfl)
theorem dX2_part_69 : decode cX2_part 69 = .ok (.getfield 134, 3) := dk_180 0 134 (dk_at dksX2_part_3 1 rfl rfl)
theorem dX2_part_72 : decode cX2_part 72 = .ok (.iconst 1, 1) := dk_4 (dk_at dksX2_part_3 4 rfl rfl)
theorem dX2_part_73 : decode cX2_part 73 = .ok (.iadd, 1) := dk_96 (dk_at dksX2_part_3 5 rfl rfl)
theorem dX2_part_74 : decode cX2_part 74 = .ok (.putfield 134, 3) := dk_181 0 134 (dk_at dksX2_part_3 6 rfl rfl)
theorem dX2_part_77 : decode cX2_part 77 = .ok (.iload_n 1, 1) := dk_27 (dk_at dksX2_part_3 9 rfl rfl)
theorem dX2_part_78 : decode cX2_part 78 = .ok (.iconst (-1), 1) := dk_2 (dk_at dksX2_part_3 10 rfl rfl)
theorem dX2_part_79 : decode cX2_part 79 = .ok (.if_icmp .eq 12, 3) := dk_159 0 12 (dk_at dksX2_part_3 11 rfl rfl)
theorem dX2_part_82 : decode cX2_part 82 = .ok (.new 354, 3) := dk_187 1 98 (dk_at dksX2_part_3 14 rfl rfl)
theorem dX2_part_85 : decode cX2_part 85 = .ok (.dup, 1) := dk_89 (dk_at dksX2_part_3 17 rfl rfl)
theorem dX2_part_86 : decode cX2_part 86 = .ok (.iload_n 1, 1) := dk_27 (dk_at dksX2_part_3 18 rfl rfl)
theorem dX2_part_87 : decode cX2_part 87 = .ok (.invokespecial 356, 3) := dk_183 1 100 (dk_at dksX2_part_3 19 rfl rfl)
theorem dX2_part_90 : decode cX2_part 90 = .ok (.areturn, 1) := dk_176 (dk_at dksX2_part_3 22 rfl rfl)
theorem dX2_part_91 : decode cX2_part 91 = .ok (.iload_n 2, 1) := dk_28 (dk_at dksX2_part_3 23 rfl rfl)
theorem dX2_part_92 : decode cX2_part 92 = .ok (.ifCond .ne 38, 3) := dk_154 0 38 (dk_at dksX2_part_4 0 rfl rfl)
theorem dX2_part_95 : decode cX2_part 95 = .ok (.aload_n 0, 1) := dk_42 (dk_at dksX2_part_4 3 rfl rfl)
theorem dX2_part_96 : decode cX2_part 96 = .ok (.getfield 85, 3) := dk_180 0 85 (dk_at dksX2_part_4 4 rfl rfl)
theorem dX2_part_99 : decode cX2_part 99 = .ok (.aload_n 0, 1) := dk_42 (dk_at dksX2_part_4 7 rfl rfl)
theorem dX2_part_100 : decode cX2_part 100 = .ok (.getfield 134, 3) := dk_180 0 134 (dk_at dksX2_part_4 8 rfl rfl)
theorem dX2_part_103 : decode cX2_part 103 = .ok (.iconst 1, 1) := dk_4 (dk_at dksX2_part_4 11 rfl rfl)
theorem dX2_part_104 : decode cX2_part 104 = .ok (.isub, 1) := dk_100 (dk_at dksX2_part_4 12 rfl rfl)
theorem dX2_part_105 : decode cX2_part 105 = .ok (.iaload, 1) := dk_46 (dk_at dksX2_part_4 13 rfl rfl)
theorem dX2_part_106 : decode cX2_part 106 = .ok (.iconst 2, 1) := dk_5 (dk_at dksX2_part_4 14 rfl rfl)
theorem dX2_part_107 : decode cX2_part 107 = .ok (.if_icmp .ne 23, 3) := dk_160 0 23 (dk_at dksX2_part_4 15 rfl rfl)
theorem dX2_part_110 : decode cX2_part 110 = .ok (.new 357, 3) := dk_187 1 101 (dk_at dksX2_part_4 18 rfl rfl)
theorem dX2_part_113 : decode cX2_part 113 = .ok (.dup, 1) := dk_89 (dk_at dksX2_part_4 21 rfl rfl)
theorem dX2_part_114 : decode cX2_part 114 = .ok (.aload_n 0, 1) := dk_42 (dk_at dksX2_part_4 22 rfl rfl)
theorem dX2_part_115 : decode cX2_part 115 = .ok (.getfield 88, 3) := dk_180 0 88 (dk_at dksX2_part_5 0 rfl rfl)
theorem dX2_part_118 : decode cX2_part 118 = .ok (.aload_n 0, 1) := dk_42 (dk_at dksX2_part_5 3 rfl rfl)
theorem dX2_part_119 : decode cX2_part 119 = .ok (.getfield 134, 3) := dk_180 0 134 (dk_at dksX2_part_5 4 rfl rfl)
theorem dX2_part_122 : decode cX2_part 122 = .ok (.iconst 1, 1) := dk_4 (dk_at dksX2_part_5 7 rfl rfl)
theorem dX2_part_123 : decode cX2_part 123 = .ok (.isub, 1) := dk_100 (dk_at dksX2_part_5 8 rfl rfl)
theorem dX2_part_124 : decode cX2_part 124 = .ok (.laload, 1) := dk_47 (dk_at dksX2_part_5 9 rfl rfl)
theorem dX2_part_125 : decode cX2_part 125 = .ok (.l2i, 1) := dk_136 (dk_at dksX2_part_5 10 rfl rfl)
theorem dX2_part_126 : decode cX2_part 126 = .ok (.invokespecial 359, 3) := dk_183 1 103 (dk_at dksX2_part_5 11 rfl rfl)
theorem dX2_part_129 : decode cX2_part 129 = .ok (.areturn, 1) := dk_176 (dk_at dksX2_part_5 14 rfl rfl)
theorem dX2_part_130 : decode cX2_part 130 = .ok (.aload_n 0, 1) := dk_42 (dk_at dksX2_part_5 15 rfl rfl)
theorem dX2_part_131 : decode cX2_part 131 = .ok (.dup, 1) := dk_89 (dk_at dksX2_part_5 16 rfl rfl)
theorem dX2_part_132 : decode cX2_part 132 = .ok (.getfield 303, 3) := dk_180 1 47 (dk_at dksX2_part_5 17 rfl rfl)
theorem dX2_part_135 : decode cX2_part 135 = .ok (.iconst 1, 1) := dk_4 (dk_at dksX2_part_5 20 rfl rfl)
theorem dX2_part_136 : decode cX2_part 136 = .ok (.iadd, 1) := dk_96 (dk_at dksX2_part_5 21 rfl rfl)
theorem dX2_part_137 : decode cX2_part 137 = .ok (.putfield 303, 3) := dk_181 1 47 (dk_at dksX2_part_6 0 rfl rfl)
theorem dX2_part_140 : decode cX2_part 140 = .ok (.iload_n 2, 1) := dk_28 (dk_at dksX2_part_6 3 rfl rfl)
theorem dX2_part_141 : decode cX2_part 141 = .ok (.ifCond .eq 17, 3) := dk_153 0 17 (dk_at dksX2_part_6 4 rfl rfl)
theorem dX2_part_144 : decode cX2_part 144 = .ok (.new 360, 3) := dk_187 1 104 (dk_at dksX2_part_6 7 rfl rfl)
theorem dX2_part_147 : decode cX2_part 147 = .ok (.dup, 1) := dk_89 (dk_at dksX2_part_6 10 rfl rfl)
theorem dX2_part_148 : decode cX2_part 148 = .ok (.aload_n 0, 1) := dk_42 (dk_at dksX2_part_6 11 rfl rfl)
theorem dX2_part_149 : decode cX2_part 149 = .ok (.invokevirtual 348, 3) := dk_182 1 92 (dk_at dksX2_part_6 12 rfl rfl)
theorem dX2_part_152 : decode cX2_part 152 = .ok (.invokespecial 362, 3) := dk_183 1 106 (dk_at dksX2_part_6 15 rfl rfl)
theorem dX2_part_155 : decode cX2_part 155 = .ok (.goto 7, 3) := dk_167 0 7 (dk_at dksX2_part_6 18 rfl rfl)
theorem dX2_part_158 : decode cX2_part 158 = .ok (.aload_n 0, 1) := dk_42 (dk_at dksX2_part_6 21 rfl rfl)
theorem dX2_part_159 : decode cX2_part 159 = .ok (.invokevirtual 306, 3) := dk_182 1 50 (dk_at dksX2_part_7 0 rfl rfl)
theorem dX2_part_162 : decode cX2_part 162 = .ok (.astore_n 3, 1) := dk_78 (dk_at dksX2_part_7 3 rfl rfl)
theorem dX2_part_163 : decode cX2_part 163 = .ok (.iload_n 2, 1) := dk_28 (dk_at dksX2_part_7 4 rfl rfl)
theorem dX2_part_164 : decode cX2_part 164 = .ok (.ifCond .ne 9, 3) := dk_154 0 9 (dk_at dksX2_part_7 5 rfl rfl)
theorem dX2_part_167 : decode cX2_part 167 = .ok (.aload_n 0, 1) := dk_42 (dk_at dksX2_part_7 8 rfl rfl)
theorem dX2_part_168 : decode cX2_part 168 = .ok (.bipush 41, 2) := dk_16 41 (dk_at dksX2_part_7 9 rfl rfl)
theorem dX2_part_170 : decode cX2_part 170 = .ok (.invokevirtual 185, 3) := dk_182 0 185 (dk_at dksX2_part_7 11 rfl rfl)
theorem dX2_part_173 : decode cX2_part 173 = .ok (.aload_n 0, 1) := dk_42 (dk_at dksX2_part_7 14 rfl rfl)
theorem dX2_part_174 : decode cX2_part 174 = .ok (.dup, 1) := dk_89 (dk_at dksX2_part_7 15 rfl rfl)
theorem dX2_part_175 : decode cX2_part 175 = .ok (.getfield 303, 3) := dk_180 1 47 (dk_at dksX2_part_7 16 rfl rfl)
theorem dX2_part_178 : decode cX2_part 178 = .ok (.iconst 1, 1) := dk_4 (dk_at dksX2_part_7 19 rfl rfl)
theorem dX2_part_179 : decode cX2_part 179 = .ok (.isub, 1) := dk_100 (dk_at dksX2_part_7 20 rfl rfl)
theorem dX2_part_180 : decode cX2_part 180 = .ok (.putfield 303, 3) := dk_181 1 47 (dk_at dksX2_part_7 21 rfl rfl)
theorem dX2_part_183 : decode cX2_part 183 = .ok (.aload_n 3, 1) := dk_45 (dk_at dksX2_part_8 0 rfl rfl)
theorem dX2_part_184 : decode cX2_part 184 = .ok (.areturn, 1) := dk_176 (dk_at dksX2_part_8 1 rfl rfl)
def dkwX2_isSign_1 : List UInt8 := [148, 154, 0, 7, 4, 167, 0, 4, 3, 172]
abbrev dktX2_isSign_1 : List UInt8 := dkwX2_isSign_1 ++ []
def dkwX2_isSign_0 : List UInt8 := [42, 180, 0, 85, 42, 180, 0, 134, 46, 6, 160, 0, 22, 42, 180, 0, 88, 42, 180, 0, 134, 47, 27, 133]
abbrev dktX2_isSign_0 : List UInt8 := dkwX2_isSign_0 ++ dktX2_isSign_1
theorem dksX2_isSign_0 : cX2_isSign.data.toList.drop 0 = dktX2_isSign_0 := by decide +kernel
theorem dksX2_isSign_1 : cX2_isSign.data.toList.drop 24 = dktX2_isSign_1 := dk_seg dksX2_isSign_0 24 rfl rfl
theorem dX2_isSign_0 : decode cX2_isSign 0 = .ok (.aload_n 0, 1) := dk_42 (dk_at dksX2_isSign_0 0 rfl rfl)
theorem dX2_isSign_1 : decode cX2_isSign 1 = .ok (.getfield 85, 3) := dk_180 0 85 (dk_at dksX2_isSign_0 1 rfl rfl)
theorem dX2_isSign_4 : decode cX2_isSign 4 = .ok (.aload_n 0, 1) := dk_42 (dk_at dksX2_isSign_0 4 rfl rfl)
theorem dX2_isSign_5 : decode cX2_isSign 5 = .ok (.getfield 134, 3) := dk_180 0 134 (dk_at dksX2_isSign_0 5 rfl rfl)
theorem dX2_isSign_8 : decode cX2_isSign 8 = .ok (.iaload, 1) := dk_46 (dk_at dksX2_isSign_0 8 rfl rfl)
theorem dX2_isSign_9 : decode cX2_isSign 9 = .ok (.iconst 3, 1) := dk_6 (dk_at dksX2_isSign_0 9 rfl rfl)
theorem dX2_isSign_10 : decode cX2_isSign 10 = .ok (.if_icmp .ne 22, 3) := dk_160 0 22 (dk_at dksX2_isSign_0 10 rfl rfl)
theorem dX2_isSign_13 : decode cX2_isSign 13 = .ok (.aload_n 0, 1) := dk_42 (dk_at dksX2_isSign_0 13 rfl rfl)
theorem dX2_isSign_14 : decode cX2_isSign 14 = .ok (.getfield 88, 3) := dk_180 0 88 (dk_at dksX2_isSign_0 14 rfl rfl)
theorem dX2_isSign_17 : decode cX2_isSign 17 = .ok (.aload_n 0, 1) := dk_42 (dk_at dksX2_isSign_0 17 rfl rfl)
theorem dX2_isSign_18 : decode cX2_isSign 18 = .ok (.getfield 134, 3) := dk_180 0 134 (dk_at dksX2_isSign_0 18 rfl rfl)
theorem dX2_isSign_21 : decode cX2_isSign 21 = .ok (.laload, 1) := dk_47 (dk_at dksX2_isSign_0 21 rfl rfl)
theorem dX2_isSign_22 : decode cX2_isSign 22 = .ok (.iload_n 1, 1) := dk_27 (dk_at dksX2_isSign_0 22 rfl rfl)
theorem dX2_isSign_23 : decode cX2_isSign 23 = .ok (.i2l, 1) := dk_133 (dk_at dksX2_isSign_0 23 rfl rfl)
theorem dX2_isSign_24 : decode cX2_isSign 24 = .ok (.lcmp, 1) := dk_148 (dk_at dksX2_isSign_1 0 rfl rfl)
theorem dX2_isSign_25 : decode cX2_isSign 25 = .ok (.ifCond .ne 7, 3) := dk_154 0 7 (dk_at dksX2_isSign_1 1 rfl rfl)
theorem dX2_isSign_28 : decode cX2_isSign 28 = .ok (.iconst 1, 1) := dk_4 (dk_at dksX2_isSign_1 4 rfl rfl)
theorem dX2_isSign_29 : decode cX2_isSign 29 = .ok (.goto 4, 3) := dk_167 0 4 (dk_at dksX2_isSign_1 5 rfl rfl)
theorem dX2_isSign_32 : decode cX2_isSign 32 = .ok (.iconst 0, 1) := dk_3 (dk_at dksX2_isSign_1 8 rfl rfl)
theorem dX2_isSign_33 : decode cX2_isSign 33 = .ok (.ireturn, 1) := dk_172 (dk_at dksX2_isSign_1 9 rfl rfl)
def dkwX2_sign_0 : List UInt8 := [42, 27, 182, 0, 152, 154, 0, 9, 42, 4, 182, 0, 155, 191, 177]
abbrev dktX2_sign_0 : List UInt8 := dkwX2_sign_0 ++ []
theorem dksX2_sign_0 : cX2_sign.data.toList.drop 0 = dktX2_sign_0 := by decide +kernel
theorem dX2_sign_0 : decode cX2_sign 0 = .ok (.aload_n 0, 1) := dk_42 (dk_at dksX2_sign_0 0 rfl rfl)
theorem dX2_sign_1 : decode cX2_sign 1 = .ok (.iload_n 1, 1) := dk_27 (dk_at dksX2_sign_0 1 rfl rfl)
theorem dX2_sign_2 : decode cX2_sign 2 = .ok (.invokevirtual 152, 3) := dk_182 0 152 (dk_at dksX2_sign_0 2 rfl rfl)
theorem dX2_sign_5 : decode cX2_sign 5 = .ok (.ifCond .ne 9, 3) := dk_154 0 9 (dk_at dksX2_sign_0 5 rfl rfl)
theorem dX2_sign_8 : decode cX2_sign 8 = .ok (.aload_n 0, 1) := dk_42 (dk_at dksX2_sign_0 8 rfl rfl)
theorem dX2_sign_9 : decode cX2_sign 9 = .ok (.iconst 1, 1) := dk_4 (dk_at dksX2_sign_0 9 rfl rfl)
theorem dX2_sign_10 : decode cX2_sign 10 = .ok (.invokevirtual 155, 3) := dk_182 0 155 (dk_at dksX2_sign_0 10 rfl rfl)
theorem dX2_sign_13 : decode cX2_sign 13 = .ok (.athrow, 1) := dk_191 (dk_at dksX2_sign_0 13 rfl rfl)
theorem dX2_sign_14 : decode cX2_sign 14 = .ok (.return_, 1) := dk_177 (dk_at dksX2_sign_0 14 rfl rfl)
def dkwX2_hasSign_0 : List UInt8 := [42, 27, 182, 0, 149, 61, 28, 153, 0, 13, 42, 89, 180, 0, 134, 4, 96, 181, 0, 134, 28, 172]
abbrev dktX2_hasSign_0 : List UInt8 := dkwX2_hasSign_0 ++ []
theorem dksX2_hasSign_0 : cX2_hasSign.data.toList.drop 0 = dktX2_hasSign_0 := by decide +kernel
theorem dX2_hasSign_0 : decode cX2_hasSign 0 = .ok (.aload_n 0, 1) := dk_42 (dk_at dksX2_hasSign_0 0 rfl rfl)
theorem dX2_hasSign_1 : decode cX2_hasSign 1 = .ok (.iload_n 1, 1) := dk_27 (dk_at dksX2_hasSign_0 1 rfl rfl)
theorem dX2_hasSign_2 : decode cX2_hasSign 2 = .ok (.invokevirtual 149, 3) := dk_182 0 149 (dk_at dksX2_hasSign_0 2 rfl rfl)
theorem dX2_hasSign_5 : decode cX2_hasSign 5 = .ok (.istore_n 2, 1) := dk_61 (dk_at dksX2_hasSign_0 5 rfl rfl)
theorem dX2_hasSign_6 : decode cX2_hasSign 6 = .ok (.iload_n 2, 1) := dk_28 (dk_at dksX2_hasSign_0 6 rfl rfl)
theorem dX2_hasSign_7 : decode cX2_hasSign 7 = .ok (.ifCond .eq 13, 3) := dk_153 0 13 (dk_at dksX2_hasSign_0 7 rfl rfl)
theorem dX2_hasSign_10 : decode cX2_hasSign 10 = .ok (.aload_n 0, 1) := dk_42 (dk_at dksX2_hasSign_0 10 rfl rfl)
theorem dX2_hasSign_11 : decode cX2_hasSign 11 = .ok (.dup, 1) := dk_89 (dk_at dksX2_hasSign_0 11 rfl rfl)
theorem dX2_hasSign_12 : decode cX2_hasSign 12 = .ok (.getfield 134, 3) := dk_180 0 134 (dk_at dksX2_hasSign_0 12 rfl rfl)
theorem dX2_hasSign_15 : decode cX2_hasSign 15 = .ok (.iconst 1, 1) := dk_4 (dk_at dksX2_hasSign_0 15 rfl rfl)
theorem dX2_hasSign_16 : decode cX2_hasSign 16 = .ok (.iadd, 1) := dk_96 (dk_at dksX2_hasSign_0 16 rfl rfl)
theorem dX2_hasSign_17 : decode cX2_hasSign 17 = .ok (.putfield 134, 3) := dk_181 0 134 (dk_at dksX2_hasSign_0 17 rfl rfl)
theorem dX2_hasSign_20 : decode cX2_hasSign 20 = .ok (.iload_n 2, 1) := dk_28 (dk_at dksX2_hasSign_0 20 rfl rfl)
theorem dX2_hasSign_21 : decode cX2_hasSign 21 = .ok (.ireturn, 1) := dk_172 (dk_at dksX2_hasSign_0 21 rfl rfl)
def dkwX2_chain_0 : List UInt8 := [43, 199, 0, 14, 187, 1, 53, 89, 42, 183, 1, 55, 167, 0, 4, 43, 176]
abbrev dktX2_chain_0 : List UInt8 := dkwX2_chain_0 ++ []
theorem dksX2_chain_0 : cX2_chain.data.toList.drop 0 = dktX2_chain_0 := by decide +kernel
theorem dX2_chain_0 : decode cX2_chain 0 = .ok (.aload_n 1, 1) := dk_43 (dk_at dksX2_chain_0 0 rfl rfl)
theorem dX2_chain_1 : decode cX2_chain 1 = .ok (.ifnonnull 14, 3) := dk_199 0 14 (dk_at dksX2_chain_0 1 rfl rfl)
theorem dX2_chain_4 : decode cX2_chain 4 = .ok (.new 309, 3) := dk_187 1 53 (dk_at dksX2_chain_0 4 rfl rfl)
theorem dX2_chain_7 : decode cX2_chain 7 = .ok (.dup, 1) := dk_89 (dk_at dksX2_chain_0 7 rfl rfl)
theorem dX2_chain_8 : decode cX2_chain 8 = .ok (.aload_n 0, 1) := dk_42 (dk_at dksX2_chain_0 8 rfl rfl)
theorem dX2_chain_9 : decode cX2_chain 9 = .ok (.invokespecial 311, 3) := dk_183 1 55 (dk_at dksX2_chain_0 9 rfl rfl)
theorem dX2_chain_12 : decode cX2_chain 12 = .ok (.goto 4, 3) := dk_167 0 4 (dk_at dksX2_chain_0 12 rfl rfl)
theorem dX2_chain_15 : decode cX2_chain 15 = .ok (.aload_n 1, 1) := dk_43 (dk_at dksX2_chain_0 15 rfl rfl)
theorem dX2_chain_16 : decode cX2_chain 16 = .ok (.areturn, 1) := dk_176 (dk_at dksX2_chain_0 16 rfl rfl)
def dkwX2_day_4 : List UInt8 := [44, 176]
abbrev dktX2_day_4 : List UInt8 := dkwX2_day_4 ++ []
def dkwX2_day_3 : List UInt8 := [4, 96, 181, 0, 134, 44, 42, 29, 182, 1, 26, 182, 0, 214, 87, 42, 16, 59, 182, 0, 185, 167, 255, 183]
abbrev dktX2_day_3 : List UInt8 := dkwX2_day_3 ++ dktX2_day_4
def dkwX2_day_2 : List UInt8 := [182, 0, 155, 191, 44, 182, 0, 238, 16, 40, 160, 0, 9, 42, 8, 182, 0, 155, 191, 42, 89, 180, 0, 134]
abbrev dktX2_day_2 : List UInt8 := dkwX2_day_2 ++ dktX2_day_3
def dkwX2_day_1 : List UInt8 := [180, 0, 134, 46, 153, 0, 67, 42, 42, 180, 0, 78, 182, 0, 159, 62, 29, 2, 160, 0, 9, 42, 4]
abbrev dktX2_day_1 : List UInt8 := dkwX2_day_1 ++ dktX2_day_2
def dkwX2_day_0 : List UInt8 := [42, 182, 0, 163, 42, 43, 181, 0, 169, 187, 0, 215, 89, 5, 183, 1, 25, 77, 42, 180, 0, 85, 42]
abbrev dktX2_day_0 : List UInt8 := dkwX2_day_0 ++ dktX2_day_1
theorem dksX2_day_0 : cX2_day.data.toList.drop 0 = dktX2_day_0 := by decide +kernel
theorem dksX2_day_1 : cX2_day.data.toList.drop 23 = dktX2_day_1 := dk_seg dksX2_day_0 23 rfl rfl
theorem dksX2_day_2 : cX2_day.data.toList.drop 46 = dktX2_day_2 := dk_seg dksX2_day_1 23 rfl rfl
theorem dksX2_day_3 : cX2_day.data.toList.drop 70 = dktX2_day_3 := dk_seg dksX2_day_2 24 rfl rfl
theorem dksX2_day_4 : cX2_day.data.toList.drop 94 = dktX2_day_4 := dk_seg dksX2_day_3 24 rfl rfl
theorem dX2_day_0 : decode cX2_day 0 = .ok (.aload_n 0, 1) := dk_42 (dk_at dksX2_day_0 0 rfl rfl)
theorem dX2_day_1 : decode cX2_day 1 = .ok (.invokevirtual 163, 3) := dk_182 0 163 (dk_at dksX2_day_0 1 rfl rfl)
theorem dX2_day_4 : decode cX2_day 4 = .ok (.aload_n 0, 1) := dk_42 (dk_at dksX2_day_0 4 rfl rfl)
theorem dX2_day_5 : decode cX2_day 5 = .ok (.aload_n 1, 1) := dk_43 (dk_at dksX2_day_0 5 rfl rfl)
theorem dX2_day_6 : decode cX2_day 6 = .ok (.putfield 169, 3) := dk_181 0 169 (dk_at dksX2_day_0 6 rfl rfl)
theorem dX2_day_9 : decode cX2_day 9 = .ok (.new 215, 3) := dk_187 0 215 (dk_at dksX2_day_0 9 rfl rfl)
theorem dX2_day_12 : decode cX2_day 12 = .ok (.dup, 1) := dk_89 (dk_at dksX2_day_0 12 rfl rfl)
theorem dX2_day_13 : decode cX2_day 13 = .ok (.iconst 2, 1) := dk_5 (dk_at dksX2_day_0 13 rfl rfl)
theorem dX2_day_14 : decode cX2_day 14 = .ok (.invokespecial 281, 3) := dk_183 1 25 (dk_at dksX2_day_0 14 rfl rfl)
theorem dX2_day_17 : decode cX2_day 17 = .ok (.astore_n 2, 1) := dk_77 (dk_at dksX2_day_0 17 rfl rfl)
theorem dX2_day_18 : decode cX2_day 18 = .ok (.aload_n 0, 1) := dk_42 (dk_at dksX2_day_0 18 rfl rfl)
theorem dX2_day_19 : decode cX2_day 19 = .ok (.getfield 85, 3) := dk_180 0 85 (dk_at dksX2_day_0 19 rfl rfl)
theorem dX2_day_22 : decode cX2_day 22 = .ok (.aload_n 0, 1) := dk_42 (dk_at dksX2_day_0 22 rfl rfl)
theorem dX2_day_23 : decode cX2_day 23 = .ok (.getfield 134, 3) := dk_180 0 134 (dk_at dksX2_day_1 0 rfl rfl)
theorem dX2_day_26 : decode cX2_day 26 = .ok (.iaload, 1) := dk_46 (dk_at dksX2_day_1 3 rfl rfl)
theorem dX2_day_27 : decode cX2_day 27 = .ok (.ifCond .eq 67, 3) := dk_153 0 67 (dk_at dksX2_day_1 4 rfl rfl)
theorem dX2_day_30 : decode cX2_day 30 = .ok (.aload_n 0, 1) := dk_42 (dk_at dksX2_day_1 7 rfl rfl)
theorem dX2_day_31 : decode cX2_day 31 = .ok (.aload_n 0, 1) := dk_42 (dk_at dksX2_day_1 8 rfl rfl)
theorem dX2_day_32 : decode cX2_day 32 = .ok (.getfield 78, 3) := dk_180 0 78 (dk_at dksX2_day_1 9 rfl rfl)
theorem dX2_day_35 : decode cX2_day 35 = .ok (.invokevirtual 159, 3) := dk_182 0 159 (dk_at dksX2_day_1 12 rfl rfl)
theorem dX2_day_38 : decode cX2_day 38 = .ok (.istore_n 3, 1) := dk_62 (dk_at dksX2_day_1 15 rfl rfl)
theorem dX2_day_39 : decode cX2_day 39 = .ok (.iload_n 3, 1) := dk_29 (dk_at dksX2_day_1 16 rfl rfl)
theorem dX2_day_40 : decode cX2_day 40 = .ok (.iconst (-1), 1) := dk_2 (dk_at dksX2_day_1 17 rfl rfl)
theorem dX2_day_41 : decode cX2_day 41 = .ok (.if_icmp .ne 9, 3) := dk_160 0 9 (dk_at dksX2_day_1 18 rfl rfl)
theorem dX2_day_44 : decode cX2_day 44 = .ok (.aload_n 0, 1) := dk_42 (dk_at dksX2_day_1 21 rfl rfl)
theorem dX2_day_45 : decode cX2_day 45 = .ok (.iconst 1, 1) := dk_4 (dk_at dksX2_day_1 22 rfl rfl)
theorem dX2_day_46 : decode cX2_day 46 = .ok (.invokevirtual 155, 3) := dk_182 0 155 (dk_at dksX2_day_2 0 rfl rfl)
theorem dX2_day_49 : decode cX2_day 49 = .ok (.athrow, 1) := dk_191 (dk_at dksX2_day_2 3 rfl rfl)
theorem dX2_day_50 : decode cX2_day 50 = .ok (.aload_n 2, 1) := dk_44 (dk_at dksX2_day_2 4 rfl rfl)
theorem dX2_day_51 : decode cX2_day 51 = .ok (.invokevirtual 238, 3) := dk_182 0 238 (dk_at dksX2_day_2 5 rfl rfl)
theorem dX2_day_54 : decode cX2_day 54 = .ok (.bipush 40, 2) := dk_16 40 (dk_at dksX2_day_2 8 rfl rfl)
theorem dX2_day_56 : decode cX2_day 56 = .ok (.if_icmp .ne 9, 3) := dk_160 0 9 (dk_at dksX2_day_2 10 rfl rfl)
theorem dX2_day_59 : decode cX2_day 59 = .ok (.aload_n 0, 1) := dk_42 (dk_at dksX2_day_2 13 rfl rfl)
theorem dX2_day_60 : decode cX2_day 60 = .ok (.iconst 5, 1) := dk_8 (dk_at dksX2_day_2 14 rfl rfl)
theorem dX2_day_61 : decode cX2_day 61 = .ok (.invokevirtual 155, 3) := dk_182 0 155 (dk_at dksX2_day_2 15 rfl rfl)
theorem dX2_day_64 : decode cX2_day 64 = .ok (.athrow, 1) := dk_191 (dk_at dksX2_day_2 18 rfl rfl)
theorem dX2_day_65 : decode cX2_day 65 = .ok (.aload_n 0, 1) := dk_42 (dk_at dksX2_day_2 19 rfl rfl)
theorem dX2_day_66 : decode cX2_day 66 = .ok (.dup, 1) := dk_89 (dk_at dksX2_day_2 20 rfl rfl)
theorem dX2_day_67 : decode cX2_day 67 = .ok (.getfield 134, 3) := dk_180 0 134 (dk_at dksX2_day_2 21 rfl rfl)
theorem dX2_day_70 : decode cX2_day 70 = .ok (.iconst 1, 1) := dk_4 (dk_at dksX2_day_3 0 rfl rfl)
theorem dX2_day_71 : decode cX2_day 71 = .ok (.iadd, 1) := dk_96 (dk_at dksX2_day_3 1 rfl rfl)
theorem dX2_day_72 : decode cX2_day 72 = .ok (.putfield 134, 3) := dk_181 0 134 (dk_at dksX2_day_3 2 rfl rfl)
theorem dX2_day_75 : decode cX2_day 75 = .ok (.aload_n 2, 1) := dk_44 (dk_at dksX2_day_3 5 rfl rfl)
theorem dX2_day_76 : decode cX2_day 76 = .ok (.aload_n 0, 1) := dk_42 (dk_at dksX2_day_3 6 rfl rfl)
theorem dX2_day_77 : decode cX2_day 77 = .ok (.iload_n 3, 1) := dk_29 (dk_at dksX2_day_3 7 rfl rfl)
theorem dX2_day_78 : decode cX2_day 78 = .ok (.invokevirtual 282, 3) := dk_182 1 26 (dk_at dksX2_day_3 8 rfl rfl)
theorem dX2_day_81 : decode cX2_day 81 = .ok (.invokevirtual 214, 3) := dk_182 0 214 (dk_at dksX2_day_3 11 rfl rfl)
theorem dX2_day_84 : decode cX2_day 84 = .ok (.pop, 1) := dk_87 (dk_at dksX2_day_3 14 rfl rfl)
theorem dX2_day_85 : decode cX2_day 85 = .ok (.aload_n 0, 1) := dk_42 (dk_at dksX2_day_3 15 rfl rfl)
theorem dX2_day_86 : decode cX2_day 86 = .ok (.bipush 59, 2) := dk_16 59 (dk_at dksX2_day_3 16 rfl rfl)
theorem dX2_day_88 : decode cX2_day 88 = .ok (.invokevirtual 185, 3) := dk_182 0 185 (dk_at dksX2_day_3 18 rfl rfl)
theorem dX2_day_91 : decode cX2_day 91 = .ok (.goto (-73), 3) := dk_167 255 183 (dk_at dksX2_day_3 21 rfl rfl)
theorem dX2_day_94 : decode cX2_day 94 = .ok (.aload_n 2, 1) := dk_44 (dk_at dksX2_day_4 0 rfl rfl)
theorem dX2_day_95 : decode cX2_day 95 = .ok (.areturn, 1) := dk_176 (dk_at dksX2_day_4 1 rfl rfl)
def dkwX2_line_2 : List UInt8 := [183, 1, 43, 176]
abbrev dktX2_line_2 : List UInt8 := dkwX2_line_2 ++ []
def dkwX2_line_1 : List UInt8 := [187, 1, 36, 89, 28, 42, 4, 7, 182, 0, 192, 183, 1, 38, 167, 0, 11, 187, 1, 41, 89, 28]
abbrev dktX2_line_1 : List UInt8 := dkwX2_line_1 ++ dktX2_line_2
def dkwX2_line_0 : List UInt8 := [27, 5, 160, 0, 11, 187, 1, 30, 89, 183, 1, 32, 176, 42, 182, 1, 33, 61, 27, 154, 0, 20]
abbrev dktX2_line_0 : List UInt8 := dkwX2_line_0 ++ dktX2_line_1
theorem dksX2_line_0 : cX2_line.data.toList.drop 0 = dktX2_line_0 := by decide +kernel
theorem dksX2_line_1 : cX2_line.data.toList.drop 22 = dktX2_line_1 := dk_seg dksX2_line_0 22 rfl rfl
theorem dksX2_line_2 : cX2_line.data.toList.drop 44 = dktX2_line_2 := dk_seg dksX2_line_1 22 rfl rfl
theorem dX2_line_0 : decode cX2_line 0 = .ok (.iload_n 1, 1) := dk_27 (dk_at dksX2_line_0 0 rfl rfl)
theorem dX2_line_1 : decode cX2_line 1 = .ok (.iconst 2, 1) := dk_5 (dk_at dksX2_line_0 1 rfl rfl)
theorem dX2_line_2 : decode cX2_line 2 = .ok (.if_icmp .ne 11, 3) := dk_160 0 11 (dk_at dksX2_line_0 2 rfl rfl)
theorem dX2_line_5 : decode cX2_line 5 = .ok (.new 286, 3) := dk_187 1 30 (dk_at dksX2_line_0 5 rfl rfl)
theorem dX2_line_8 : decode cX2_line 8 = .ok (.dup, 1) := dk_89 (dk_at dksX2_line_0 8 rfl rfl)
theorem dX2_line_9 : decode cX2_line 9 = .ok (.invokespecial 288, 3) := dk_183 1 32 (dk_at dksX2_line_0 9 rfl rfl)
theorem dX2_line_12 : decode cX2_line 12 = .ok (.areturn, 1) := dk_176 (dk_at dksX2_line_0 12 rfl rfl)
theorem dX2_line_13 : decode cX2_line 13 = .ok (.aload_n 0, 1) := dk_42 (dk_at dksX2_line_0 13 rfl rfl)
theorem dX2_line_14 : decode cX2_line 14 = .ok (.invokevirtual 289, 3) := dk_182 1 33 (dk_at dksX2_line_0 14 rfl rfl)
theorem dX2_line_17 : decode cX2_line 17 = .ok (.istore_n 2, 1) := dk_61 (dk_at dksX2_line_0 17 rfl rfl)
theorem dX2_line_18 : decode cX2_line 18 = .ok (.iload_n 1, 1) := dk_27 (dk_at dksX2_line_0 18 rfl rfl)
theorem dX2_line_19 : decode cX2_line 19 = .ok (.ifCond .ne 20, 3) := dk_154 0 20 (dk_at dksX2_line_0 19 rfl rfl)
theorem dX2_line_22 : decode cX2_line 22 = .ok (.new 292, 3) := dk_187 1 36 (dk_at dksX2_line_1 0 rfl rfl)
theorem dX2_line_25 : decode cX2_line 25 = .ok (.dup, 1) := dk_89 (dk_at dksX2_line_1 3 rfl rfl)
theorem dX2_line_26 : decode cX2_line 26 = .ok (.iload_n 2, 1) := dk_28 (dk_at dksX2_line_1 4 rfl rfl)
theorem dX2_line_27 : decode cX2_line 27 = .ok (.aload_n 0, 1) := dk_42 (dk_at dksX2_line_1 5 rfl rfl)
theorem dX2_line_28 : decode cX2_line 28 = .ok (.iconst 1, 1) := dk_4 (dk_at dksX2_line_1 6 rfl rfl)
theorem dX2_line_29 : decode cX2_line 29 = .ok (.iconst 4, 1) := dk_7 (dk_at dksX2_line_1 7 rfl rfl)
theorem dX2_line_30 : decode cX2_line 30 = .ok (.invokevirtual 192, 3) := dk_182 0 192 (dk_at dksX2_line_1 8 rfl rfl)
theorem dX2_line_33 : decode cX2_line 33 = .ok (.invokespecial 294, 3) := dk_183 1 38 (dk_at dksX2_line_1 11 rfl rfl)
theorem dX2_line_36 : decode cX2_line 36 = .ok (.goto 11, 3) := dk_167 0 11 (dk_at dksX2_line_1 14 rfl rfl)
theorem dX2_line_39 : decode cX2_line 39 = .ok (.new 297, 3) := dk_187 1 41 (dk_at dksX2_line_1 17 rfl rfl)
theorem dX2_line_42 : decode cX2_line 42 = .ok (.dup, 1) := dk_89 (dk_at dksX2_line_1 20 rfl rfl)
theorem dX2_line_43 : decode cX2_line 43 = .ok (.iload_n 2, 1) := dk_28 (dk_at dksX2_line_1 21 rfl rfl)
theorem dX2_line_44 : decode cX2_line 44 = .ok (.invokespecial 299, 3) := dk_183 1 43 (dk_at dksX2_line_2 0 rfl rfl)
theorem dX2_line_47 : decode cX2_line 47 = .ok (.areturn, 1) := dk_176 (dk_at dksX2_line_2 3 rfl rfl)
def dkwX2_told_2 : List UInt8 := [180, 0, 134, 4, 96, 181, 0, 134, 27, 172]
abbrev dktX2_told_2 : List UInt8 := dkwX2_told_2 ++ []
def dkwX2_told_1 : List UInt8 := [180, 0, 134, 47, 182, 0, 200, 16, 20, 100, 60, 27, 156, 0, 9, 42, 5, 182, 0, 155, 191, 42, 89]
abbrev dktX2_told_1 : List UInt8 := dkwX2_told_1 ++ dktX2_told_2
def dkwX2_told_0 : List UInt8 := [42, 182, 0, 196, 154, 0, 9, 42, 4, 182, 0, 155, 191, 42, 180, 0, 169, 42, 180, 0, 88, 42]
abbrev dktX2_told_0 : List UInt8 := dkwX2_told_0 ++ dktX2_told_1
theorem dksX2_told_0 : cX2_told.data.toList.drop 0 = dktX2_told_0 := by decide +kernel
theorem dksX2_told_1 : cX2_told.data.toList.drop 22 = dktX2_told_1 := dk_seg dksX2_told_0 22 rfl rfl
theorem dksX2_told_2 : cX2_told.data.toList.drop 45 = dktX2_told_2 := dk_seg dksX2_told_1 23 rfl rfl
theorem dX2_told_0 : decode cX2_told 0 = .ok (.aload_n 0, 1) := dk_42 (dk_at dksX2_told_0 0 rfl rfl)
theorem dX2_told_1 : decode cX2_told 1 = .ok (.invokevirtual 196, 3) := dk_182 0 196 (dk_at dksX2_told_0 1 rfl rfl)
theorem dX2_told_4 : decode cX2_told 4 = .ok (.ifCond .ne 9, 3) := dk_154 0 9 (dk_at dksX2_told_0 4 rfl rfl)
theorem dX2_told_7 : decode cX2_told 7 = .ok (.aload_n 0, 1) := dk_42 (dk_at dksX2_told_0 7 rfl rfl)
theorem dX2_told_8 : decode cX2_told 8 = .ok (.iconst 1, 1) := dk_4 (dk_at dksX2_told_0 8 rfl rfl)
theorem dX2_told_9 : decode cX2_told 9 = .ok (.invokevirtual 155, 3) := dk_182 0 155 (dk_at dksX2_told_0 9 rfl rfl)
theorem dX2_told_12 : decode cX2_told 12 = .ok (.athrow, 1) := dk_191 (dk_at dksX2_told_0 12 rfl rfl)
theorem dX2_told_13 : decode cX2_told 13 = .ok (.aload_n 0, 1) := dk_42 (dk_at dksX2_told_0 13 rfl rfl)
theorem dX2_told_14 : decode cX2_told 14 = .ok (.getfield 169, 3) := dk_180 0 169 (dk_at dksX2_told_0 14 rfl rfl)
theorem dX2_told_17 : decode cX2_told 17 = .ok (.aload_n 0, 1) := dk_42 (dk_at dksX2_told_0 17 rfl rfl)
theorem dX2_told_18 : decode cX2_told 18 = .ok (.getfield 88, 3) := dk_180 0 88 (dk_at dksX2_told_0 18 rfl rfl)
theorem dX2_told_21 : decode cX2_told 21 = .ok (.aload_n 0, 1) := dk_42 (dk_at dksX2_told_0 21 rfl rfl)
theorem dX2_told_22 : decode cX2_told 22 = .ok (.getfield 134, 3) := dk_180 0 134 (dk_at dksX2_told_1 0 rfl rfl)
theorem dX2_told_25 : decode cX2_told 25 = .ok (.laload, 1) := dk_47 (dk_at dksX2_told_1 3 rfl rfl)
theorem dX2_told_26 : decode cX2_told 26 = .ok (.invokevirtual 200, 3) := dk_182 0 200 (dk_at dksX2_told_1 4 rfl rfl)
theorem dX2_told_29 : decode cX2_told 29 = .ok (.bipush 20, 2) := dk_16 20 (dk_at dksX2_told_1 7 rfl rfl)
theorem dX2_told_31 : decode cX2_told 31 = .ok (.isub, 1) := dk_100 (dk_at dksX2_told_1 9 rfl rfl)
theorem dX2_told_32 : decode cX2_told 32 = .ok (.istore_n 1, 1) := dk_60 (dk_at dksX2_told_1 10 rfl rfl)
theorem dX2_told_33 : decode cX2_told 33 = .ok (.iload_n 1, 1) := dk_27 (dk_at dksX2_told_1 11 rfl rfl)
theorem dX2_told_34 : decode cX2_told 34 = .ok (.ifCond .ge 9, 3) := dk_156 0 9 (dk_at dksX2_told_1 12 rfl rfl)
theorem dX2_told_37 : decode cX2_told 37 = .ok (.aload_n 0, 1) := dk_42 (dk_at dksX2_told_1 15 rfl rfl)
theorem dX2_told_38 : decode cX2_told 38 = .ok (.iconst 2, 1) := dk_5 (dk_at dksX2_told_1 16 rfl rfl)
theorem dX2_told_39 : decode cX2_told 39 = .ok (.invokevirtual 155, 3) := dk_182 0 155 (dk_at dksX2_told_1 17 rfl rfl)
theorem dX2_told_42 : decode cX2_told 42 = .ok (.athrow, 1) := dk_191 (dk_at dksX2_told_1 20 rfl rfl)
theorem dX2_told_43 : decode cX2_told 43 = .ok (.aload_n 0, 1) := dk_42 (dk_at dksX2_told_1 21 rfl rfl)
theorem dX2_told_44 : decode cX2_told 44 = .ok (.dup, 1) := dk_89 (dk_at dksX2_told_1 22 rfl rfl)
theorem dX2_told_45 : decode cX2_told 45 = .ok (.getfield 134, 3) := dk_180 0 134 (dk_at dksX2_told_2 0 rfl rfl)
theorem dX2_told_48 : decode cX2_told 48 = .ok (.iconst 1, 1) := dk_4 (dk_at dksX2_told_2 3 rfl rfl)
theorem dX2_told_49 : decode cX2_told 49 = .ok (.iadd, 1) := dk_96 (dk_at dksX2_told_2 4 rfl rfl)
theorem dX2_told_50 : decode cX2_told 50 = .ok (.putfield 134, 3) := dk_181 0 134 (dk_at dksX2_told_2 5 rfl rfl)
theorem dX2_told_53 : decode cX2_told 53 = .ok (.iload_n 1, 1) := dk_27 (dk_at dksX2_told_2 8 rfl rfl)
theorem dX2_told_54 : decode cX2_told 54 = .ok (.ireturn, 1) := dk_172 (dk_at dksX2_told_2 9 rfl rfl)
def dkwX3_init_1 : List UInt8 := [181, 0, 18, 42, 8, 188, 4, 181, 0, 21, 177]
abbrev dktX3_init_1 : List UInt8 := dkwX3_init_1 ++ []
def dkwX3_init_0 : List UInt8 := [42, 183, 0, 3, 42, 8, 188, 10, 181, 0, 9, 42, 7, 188, 10, 181, 0, 15, 42, 7, 188, 10]
abbrev dktX3_init_0 : List UInt8 := dkwX3_init_0 ++ dktX3_init_1
theorem dksX3_init_0 : cX3_init.data.toList.drop 0 = dktX3_init_0 := by decide +kernel
theorem dksX3_init_1 : cX3_init.data.toList.drop 22 = dktX3_init_1 := dk_seg dksX3_init_0 22 rfl rfl
theorem dX3_init_0 : decode cX3_init 0 = .ok (.aload_n 0, 1) := dk_42 (dk_at dksX3_init_0 0 rfl rfl)
theorem dX3_init_1 : decode cX3_init 1 = .ok (.invokespecial 3, 3) := dk_183 0 3 (dk_at dksX3_init_0 1 rfl rfl)
theorem dX3_init_4 : decode cX3_init 4 = .ok (.aload_n 0, 1) := dk_42 (dk_at dksX3_init_0 4 rfl rfl)
theorem dX3_init_5 : decode cX3_init 5 = .ok (.iconst 5, 1) := dk_8 (dk_at dksX3_init_0 5 rfl rfl)
theorem dX3_init_6 : decode cX3_init 6 = .ok (.newarray .int, 2) := dk_188_10 (dk_at dksX3_init_0 6 rfl rfl)
theorem dX3_init_8 : decode cX3_init 8 = .ok (.putfield 9, 3) := dk_181 0 9 (dk_at dksX3_init_0 8 rfl rfl)
theorem dX3_init_11 : decode cX3_init 11 = .ok (.aload_n 0, 1) := dk_42 (dk_at dksX3_init_0 11 rfl rfl)
theorem dX3_init_12 : decode cX3_init 12 = .ok (.iconst 4, 1) := dk_7 (dk_at dksX3_init_0 12 rfl rfl)
theorem dX3_init_13 : decode cX3_init 13 = .ok (.newarray .int, 2) := dk_188_10 (dk_at dksX3_init_0 13 rfl rfl)
theorem dX3_init_15 : decode cX3_init 15 = .ok (.putfield 15, 3) := dk_181 0 15 (dk_at dksX3_init_0 15 rfl rfl)
theorem dX3_init_18 : decode cX3_init 18 = .ok (.aload_n 0, 1) := dk_42 (dk_at dksX3_init_0 18 rfl rfl)
theorem dX3_init_19 : decode cX3_init 19 = .ok (.iconst 4, 1) := dk_7 (dk_at dksX3_init_0 19 rfl rfl)
theorem dX3_init_20 : decode cX3_init 20 = .ok (.newarray .int, 2) := dk_188_10 (dk_at dksX3_init_0 20 rfl rfl)
theorem dX3_init_22 : decode cX3_init 22 = .ok (.putfield 18, 3) := dk_181 0 18 (dk_at dksX3_init_1 0 rfl rfl)
theorem dX3_init_25 : decode cX3_init 25 = .ok (.aload_n 0, 1) := dk_42 (dk_at dksX3_init_1 3 rfl rfl)
theorem dX3_init_26 : decode cX3_init 26 = .ok (.iconst 5, 1) := dk_8 (dk_at dksX3_init_1 4 rfl rfl)
theorem dX3_init_27 : decode cX3_init 27 = .ok (.newarray .boolean, 2) := dk_188_4 (dk_at dksX3_init_1 5 rfl rfl)
theorem dX3_init_29 : decode cX3_init 29 = .ok (.putfield 21, 3) := dk_181 0 21 (dk_at dksX3_init_1 7 rfl rfl)
theorem dX3_init_32 : decode cX3_init 32 = .ok (.return_, 1) := dk_177 (dk_at dksX3_init_1 10 rfl rfl)
def dkwX3_begins_5 : List UInt8 := [132, 2, 1, 167, 255, 214, 42, 176]
abbrev dktX3_begins_5 : List UInt8 := dkwX3_begins_5 ++ []
def dkwX3_begins_4 : List UInt8 := [180, 0, 70, 28, 182, 0, 73, 192, 0, 79, 182, 0, 81, 182, 0, 61, 79, 42, 180, 0, 18, 28, 3, 79]
abbrev dktX3_begins_4 : List UInt8 := dkwX3_begins_4 ++ dktX3_begins_5
def dkwX3_begins_3 : List UInt8 := [132, 2, 1, 167, 255, 227, 3, 61, 28, 42, 182, 0, 67, 162, 0, 40, 42, 180, 0, 15, 28, 43, 43]
abbrev dktX3_begins_3 : List UInt8 := dkwX3_begins_3 ++ dktX3_begins_4
def dkwX3_begins_2 : List UInt8 := [182, 0, 33, 162, 0, 27, 42, 180, 0, 9, 28, 43, 42, 28, 182, 0, 52, 180, 0, 56, 182, 0, 61, 79]
abbrev dktX3_begins_2 : List UInt8 := dkwX3_begins_2 ++ dktX3_begins_3
def dkwX3_begins_1 : List UInt8 := [181, 0, 40, 42, 3, 181, 0, 43, 42, 3, 181, 0, 46, 42, 3, 181, 0, 49, 3, 61, 28, 42]
abbrev dktX3_begins_1 : List UInt8 := dkwX3_begins_1 ++ dktX3_begins_2
def dkwX3_begins_0 : List UInt8 := [42, 43, 181, 0, 25, 42, 3, 181, 0, 29, 42, 4, 42, 182, 0, 33, 120, 4, 100, 181, 0, 37, 42, 3]
abbrev dktX3_begins_0 : List UInt8 := dkwX3_begins_0 ++ dktX3_begins_1
theorem dksX3_begins_0 : cX3_begins.data.toList.drop 0 = dktX3_begins_0 := by decide +kernel
theorem dksX3_begins_1 : cX3_begins.data.toList.drop 24 = dktX3_begins_1 := dk_seg dksX3_begins_0 24 rfl rfl
theorem dksX3_begins_2 : cX3_begins.data.toList.drop 46 = dktX3_begins_2 := dk_seg dksX3_begins_1 22 rfl rfl
theorem dksX3_begins_3 : cX3_begins.data.toList.drop 70 = dktX3_begins_3 := dk_seg dksX3_begins_2 24 rfl rfl
theorem dksX3_begins_4 : cX3_begins.data.toList.drop 93 = dktX3_begins_4 := dk_seg dksX3_begins_3 23 rfl rfl
theorem dksX3_begins_5 : cX3_begins.data.toList.drop 117 = dktX3_begins_5 := dk_seg dksX3_begins_4 24 rfl rfl
theorem dX3_begins_0 : decode cX3_begins 0 = .ok (.aload_n 0, 1) := dk_42 (dk_at dksX3_begins_0 0 rfl rfl)
theorem dX3_begins_1 : decode cX3_begins 1 = .ok (.aload_n 1, 1) := dk_43 (dk_at dksX3_begins_0 1 rfl rfl)
theorem dX3_begins_2 : decode cX3_begins 2 = .ok (.putfield 25, 3) := dk_181 0 25 (dk_at dksX3_begins_0 2 rfl rfl)
theorem dX3_begins_5 : decode cX3_begins 5 = .ok (.aload_n 0, 1) := dk_42 (dk_at dksX3_begins_0 5 rfl rfl)
theorem dX3_begins_6 : decode cX3_begins 6 = .ok (.iconst 0, 1) := dk_3 (dk_at dksX3_begins_0 6 rfl rfl)
theorem dX3_begins_7 : decode cX3_begins 7 = .ok (.putfield 29, 3) := dk_181 0 29 (dk_at dksX3_begins_0 7 rfl rfl)
theorem dX3_begins_10 : decode cX3_begins 10 = .ok (.aload_n 0, 1) := dk_42 (dk_at dksX3_begins_0 10 rfl rfl)
theorem dX3_begins_11 : decode cX3_begins 11 = .ok (.iconst 1, 1) := dk_4 (dk_at dksX3_begins_0 11 rfl rfl)
theorem dX3_begins_12 : decode cX3_begins 12 = .ok (.aload_n 0, 1) := dk_42 (dk_at dksX3_begins_0 12 rfl rfl)
theorem dX3_begins_13 : decode cX3_begins 13 = .ok (.invokevirtual 33, 3) := dk_182 0 33 (dk_at dksX3_begins_0 13 rfl rfl)
theorem dX3_begins_16 : decode cX3_begins 16 = .ok (.ishl, 1) := dk_120 (dk_at dksX3_begins_0 16 rfl rfl)
theorem dX3_begins_17 : decode cX3_begins 17 = .ok (.iconst 1, 1) := dk_4 (dk_at dksX3_begins_0 17 rfl rfl)
theorem dX3_begins_18 : decode cX3_begins 18 = .ok (.isub, 1) := dk_100 (dk_at dksX3_begins_0 18 rfl rfl)
theorem dX3_begins_19 : decode cX3_begins 19 = .ok (.putfield 37, 3) := dk_181 0 37 (dk_at dksX3_begins_0 19 rfl rfl)
theorem dX3_begins_22 : decode cX3_begins 22 = .ok (.aload_n 0, 1) := dk_42 (dk_at dksX3_begins_0 22 rfl rfl)
theorem dX3_begins_23 : decode cX3_begins 23 = .ok (.iconst 0, 1) := dk_3 (dk_at dksX3_begins_0 23 rfl rfl)
theorem dX3_begins_24 : decode cX3_begins 24 = .ok (.putfield 40, 3) := dk_181 0 40 (dk_at dksX3_begins_1 0 rfl rfl)
theorem dX3_begins_27 : decode cX3_begins 27 = .ok (.aload_n 0, 1) := dk_42 (dk_at dksX3_begins_1 3 rfl rfl)
theorem dX3_begins_28 : decode cX3_begins 28 = .ok (.iconst 0, 1) := dk_3 (dk_at dksX3_begins_1 4 rfl rfl)
theorem dX3_begins_29 : decode cX3_begins 29 = .ok (.putfield 43, 3) := dk_181 0 43 (dk_at dksX3_begins_1 5 rfl rfl)
theorem dX3_begins_32 : decode cX3_begins 32 = .ok (.aload_n 0, 1) := dk_42 (dk_at dksX3_begins_1 8 rfl rfl)
theorem dX3_begins_33 : decode cX3_begins 33 = .ok (.iconst 0, 1) := dk_3 (dk_at dksX3_begins_1 9 rfl rfl)
theorem dX3_begins_34 : decode cX3_begins 34 = .ok (.putfield 46, 3) := dk_181 0 46 (dk_at dksX3_begins_1 10 rfl rfl)
theorem dX3_begins_37 : decode cX3_begins 37 = .ok (.aload_n 0, 1) := dk_42 (dk_at dksX3_begins_1 13 rfl rfl)
theorem dX3_begins_38 : decode cX3_begins 38 = .ok (.iconst 0, 1) := dk_3 (dk_at dksX3_begins_1 14 rfl rfl)
theorem dX3_begins_39 : decode cX3_begins 39 = .ok (.putfield 49, 3) := dk_181 0 49 (dk_at dksX3_begins_1 15 rfl rfl)
theorem dX3_begins_42 : decode cX3_begins 42 = .ok (.iconst 0, 1) := dk_3 (dk_at dksX3_begins_1 18 rfl rfl)
theorem dX3_begins_43 : decode cX3_begins 43 = .ok (.istore_n 2, 1) := dk_61 (dk_at dksX3_begins_1 19 rfl rfl)
theorem dX3_begins_44 : decode cX3_begins 44 = .ok (.iload_n 2, 1) := dk_28 (dk_at dksX3_begins_1 20 rfl rfl)
theorem dX3_begins_45 : decode cX3_begins 45 = .ok (.aload_n 0, 1) := dk_42 (dk_at dksX3_begins_1 21 rfl rfl)
theorem dX3_begins_46 : decode cX3_begins 46 = .ok (.invokevirtual 33, 3) := dk_182 0 33 (dk_at dksX3_begins_2 0 rfl rfl)
theorem dX3_begins_49 : decode cX3_begins 49 = .ok (.if_icmp .ge 27, 3) := dk_162 0 27 (dk_at dksX3_begins_2 3 rfl rfl)
theorem dX3_begins_52 : decode cX3_begins 52 = .ok (.aload_n 0, 1) := dk_42 (dk_at dksX3_begins_2 6 rfl rfl)
theorem dX3_begins_53 : decode cX3_begins 53 = .ok (.getfield 9, 3) := dk_180 0 9 (dk_at dksX3_begins_2 7 rfl rfl)
theorem dX3_begins_56 : decode cX3_begins 56 = .ok (.iload_n 2, 1) := dk_28 (dk_at dksX3_begins_2 10 rfl rfl)
theorem dX3_begins_57 : decode cX3_begins 57 = .ok (.aload_n 1, 1) := dk_43 (dk_at dksX3_begins_2 11 rfl rfl)
theorem dX3_begins_58 : decode cX3_begins 58 = .ok (.aload_n 0, 1) := dk_42 (dk_at dksX3_begins_2 12 rfl rfl)
theorem dX3_begins_59 : decode cX3_begins 59 = .ok (.iload_n 2, 1) := dk_28 (dk_at dksX3_begins_2 13 rfl rfl)
theorem dX3_begins_60 : decode cX3_begins 60 = .ok (.invokevirtual 52, 3) := dk_182 0 52 (dk_at dksX3_begins_2 14 rfl rfl)
theorem dX3_begins_63 : decode cX3_begins 63 = .ok (.getfield 56, 3) := dk_180 0 56 (dk_at dksX3_begins_2 17 rfl rfl)
theorem dX3_begins_66 : decode cX3_begins 66 = .ok (.invokevirtual 61, 3) := dk_182 0 61 (dk_at dksX3_begins_2 20 rfl rfl)
theorem dX3_begins_69 : decode cX3_begins 69 = .ok (.iastore, 1) := dk_79 (dk_at dksX3_begins_2 23 rfl rfl)
theorem dX3_begins_70 : decode cX3_begins 70 = .ok (.iinc 2 1, 3) := dk_132 2 1 (dk_at dksX3_begins_3 0 rfl rfl)
theorem dX3_begins_73 : decode cX3_begins 73 = .ok (.goto (-29), 3) := dk_167 255 227 (dk_at dksX3_begins_3 3 rfl rfl)
theorem dX3_begins_76 : decode cX3_begins 76 = .ok (.iconst 0, 1) := dk_3 (dk_at dksX3_begins_3 6 rfl rfl)
theorem dX3_begins_77 : decode cX3_begins 77 = .ok (.istore_n 2, 1) := dk_61 (dk_at dksX3_begins_3 7 rfl rfl)
theorem dX3_begins_78 : decode cX3_begins 78 = .ok (.iload_n 2, 1) := dk_28 (dk_at dksX3_begins_3 8 rfl rfl)
theorem dX3_begins_79 : decode cX3_begins 79 = .ok (.aload_n 0, 1) := dk_42 (dk_at dksX3_begins_3 9 rfl rfl)
theorem dX3_begins_80 : decode cX3_begins 80 = .ok (.invokevirtual 67, 3) := dk_182 0 67 (dk_at dksX3_begins_3 10 rfl rfl)
theorem dX3_begins_83 : decode cX3_begins 83 = .ok (.if_icmp .ge 40, 3) := dk_162 0 40 (dk_at dksX3_begins_3 13 rfl rfl)
theorem dX3_begins_86 : decode cX3_begins 86 = .ok (.aload_n 0, 1) := dk_42 (dk_at dksX3_begins_3 16 rfl rfl)
theorem dX3_begins_87 : decode cX3_begins 87 = .ok (.getfield 15, 3) := dk_180 0 15 (dk_at dksX3_begins_3 17 rfl rfl)
theorem dX3_begins_90 : decode cX3_begins 90 = .ok (.iload_n 2, 1) := dk_28 (dk_at dksX3_begins_3 20 rfl rfl)
theorem dX3_begins_91 : decode cX3_begins 91 = .ok (.aload_n 1, 1) := dk_43 (dk_at dksX3_begins_3 21 rfl rfl)
theorem dX3_begins_92 : decode cX3_begins 92 = .ok (.aload_n 1, 1) := dk_43 (dk_at dksX3_begins_3 22 rfl rfl)
theorem dX3_begins_93 : decode cX3_begins 93 = .ok (.getfield 70, 3) := dk_180 0 70 (dk_at dksX3_begins_4 0 rfl rfl)
theorem dX3_begins_96 : decode cX3_begins 96 = .ok (.iload_n 2, 1) := dk_28 (dk_at dksX3_begins_4 3 rfl rfl)
theorem dX3_begins_97 : decode cX3_begins 97 = .ok (.invokevirtual 73, 3) := dk_182 0 73 (dk_at dksX3_begins_4 4 rfl rfl)
theorem dX3_begins_100 : decode cX3_begins 100 = .ok (.checkcast 79, 3) := dk_192 0 79 (dk_at dksX3_begins_4 7 rfl rfl)
theorem dX3_begins_103 : decode cX3_begins 103 = .ok (.invokevirtual 81, 3) := dk_182 0 81 (dk_at dksX3_begins_4 10 rfl rfl)
theorem dX3_begins_106 : decode cX3_begins 106 = .ok (.invokevirtual 61, 3) := dk_182 0 61 (dk_at dksX3_begins_4 13 rfl rfl)
theorem dX3_begins_109 : decode cX3_begins 109 = .ok (.iastore, 1) := dk_79 (dk_at dksX3_begins_4 16 rfl rfl)
theorem dX3_begins_110 : decode cX3_begins 110 = .ok (.aload_n 0, 1) := dk_42 (dk_at dksX3_begins_4 17 rfl rfl)
theorem dX3_begins_111 : decode cX3_begins 111 = .ok (.getfield 18, 3) := dk_180 0 18 (dk_at dksX3_begins_4 18 rfl rfl)
theorem dX3_begins_114 : decode cX3_begins 114 = .ok (.iload_n 2, 1) := dk_28 (dk_at dksX3_begins_4 21 rfl rfl)
theorem dX3_begins_115 : decode cX3_begins 115 = .ok (.iconst 0, 1) := dk_3 (dk_at dksX3_begins_4 22 rfl rfl)
theorem dX3_begins_116 : decode cX3_begins 116 = .ok (.iastore, 1) := dk_79 (dk_at dksX3_begins_4 23 rfl rfl)
theorem dX3_begins_117 : decode cX3_begins 117 = .ok (.iinc 2 1, 3) := dk_132 2 1 (dk_at dksX3_begins_5 0 rfl rfl)
theorem dX3_begins_120 : decode cX3_begins 120 = .ok (.goto (-42), 3) := dk_167 255 214 (dk_at dksX3_begins_5 3 rfl rfl)
theorem dX3_begins_123 : decode cX3_begins 123 = .ok (.aload_n 0, 1) := dk_42 (dk_at dksX3_begins_5 6 rfl rfl)
theorem dX3_begins_124 : decode cX3_begins 124 = .ok (.areturn, 1) := dk_176 (dk_at dksX3_begins_5 7 rfl rfl)
def dkwX3_people_0 : List UInt8 := [42, 180, 0, 25, 180, 0, 95, 182, 0, 97, 172]
abbrev dktX3_people_0 : List UInt8 := dkwX3_people_0 ++ []
theorem dksX3_people_0 : cX3_people.data.toList.drop 0 = dktX3_people_0 := by decide +kernel
theorem dX3_people_0 : decode cX3_people 0 = .ok (.aload_n 0, 1) := dk_42 (dk_at dksX3_people_0 0 rfl rfl)
theorem dX3_people_1 : decode cX3_people 1 = .ok (.getfield 25, 3) := dk_180 0 25 (dk_at dksX3_people_0 1 rfl rfl)
theorem dX3_people_4 : decode cX3_people 4 = .ok (.getfield 95, 3) := dk_180 0 95 (dk_at dksX3_people_0 4 rfl rfl)
theorem dX3_people_7 : decode cX3_people 7 = .ok (.invokevirtual 97, 3) := dk_182 0 97 (dk_at dksX3_people_0 7 rfl rfl)
theorem dX3_people_10 : decode cX3_people 10 = .ok (.ireturn, 1) := dk_172 (dk_at dksX3_people_0 10 rfl rfl)
def dkwX3_of_0 : List UInt8 := [42, 180, 0, 25, 180, 0, 95, 27, 182, 0, 73, 192, 0, 57, 176]
abbrev dktX3_of_0 : List UInt8 := dkwX3_of_0 ++ []
theorem dksX3_of_0 : cX3_of.data.toList.drop 0 = dktX3_of_0 := by decide +kernel
theorem dX3_of_0 : decode cX3_of 0 = .ok (.aload_n 0, 1) := dk_42 (dk_at dksX3_of_0 0 rfl rfl)
theorem dX3_of_1 : decode cX3_of 1 = .ok (.getfield 25, 3) := dk_180 0 25 (dk_at dksX3_of_0 1 rfl rfl)
theorem dX3_of_4 : decode cX3_of 4 = .ok (.getfield 95, 3) := dk_180 0 95 (dk_at dksX3_of_0 4 rfl rfl)
theorem dX3_of_7 : decode cX3_of 7 = .ok (.iload_n 1, 1) := dk_27 (dk_at dksX3_of_0 7 rfl rfl)
theorem dX3_of_8 : decode cX3_of 8 = .ok (.invokevirtual 73, 3) := dk_182 0 73 (dk_at dksX3_of_0 8 rfl rfl)
theorem dX3_of_11 : decode cX3_of 11 = .ok (.checkcast 57, 3) := dk_192 0 57 (dk_at dksX3_of_0 11 rfl rfl)
theorem dX3_of_14 : decode cX3_of 14 = .ok (.areturn, 1) := dk_176 (dk_at dksX3_of_0 14 rfl rfl)
def dkwX3_scouts_0 : List UInt8 := [42, 180, 0, 25, 180, 0, 70, 182, 0, 97, 172]
abbrev dktX3_scouts_0 : List UInt8 := dkwX3_scouts_0 ++ []
theorem dksX3_scouts_0 : cX3_scouts.data.toList.drop 0 = dktX3_scouts_0 := by decide +kernel
theorem dX3_scouts_0 : decode cX3_scouts 0 = .ok (.aload_n 0, 1) := dk_42 (dk_at dksX3_scouts_0 0 rfl rfl)
theorem dX3_scouts_1 : decode cX3_scouts 1 = .ok (.getfield 25, 3) := dk_180 0 25 (dk_at dksX3_scouts_0 1 rfl rfl)
theorem dX3_scouts_4 : decode cX3_scouts 4 = .ok (.getfield 70, 3) := dk_180 0 70 (dk_at dksX3_scouts_0 4 rfl rfl)
theorem dX3_scouts_7 : decode cX3_scouts 7 = .ok (.invokevirtual 97, 3) := dk_182 0 97 (dk_at dksX3_scouts_0 7 rfl rfl)
theorem dX3_scouts_10 : decode cX3_scouts 10 = .ok (.ireturn, 1) := dk_172 (dk_at dksX3_scouts_0 10 rfl rfl)
def dkwX3_mayCreep_2 : List UInt8 := [167, 0, 4, 3, 172]
abbrev dktX3_mayCreep_2 : List UInt8 := dkwX3_mayCreep_2 ++ []
def dkwX3_mayCreep_1 : List UInt8 := [180, 0, 25, 42, 180, 0, 15, 27, 46, 28, 182, 0, 104, 42, 180, 0, 15, 27, 46, 159, 0, 7, 4]
abbrev dktX3_mayCreep_1 : List UInt8 := dkwX3_mayCreep_1 ++ dktX3_mayCreep_2
def dkwX3_mayCreep_0 : List UInt8 := [42, 180, 0, 40, 27, 184, 0, 100, 154, 0, 41, 42, 180, 0, 43, 27, 184, 0, 100, 154, 0, 30, 42]
abbrev dktX3_mayCreep_0 : List UInt8 := dkwX3_mayCreep_0 ++ dktX3_mayCreep_1
theorem dksX3_mayCreep_0 : cX3_mayCreep.data.toList.drop 0 = dktX3_mayCreep_0 := by decide +kernel
theorem dksX3_mayCreep_1 : cX3_mayCreep.data.toList.drop 23 = dktX3_mayCreep_1 := dk_seg dksX3_mayCreep_0 23 rfl rfl
theorem dksX3_mayCreep_2 : cX3_mayCreep.data.toList.drop 46 = dktX3_mayCreep_2 := dk_seg dksX3_mayCreep_1 23 rfl rfl
theorem dX3_mayCreep_0 : decode cX3_mayCreep 0 = .ok (.aload_n 0, 1) := dk_42 (dk_at dksX3_mayCreep_0 0 rfl rfl)
theorem dX3_mayCreep_1 : decode cX3_mayCreep 1 = .ok (.getfield 40, 3) := dk_180 0 40 (dk_at dksX3_mayCreep_0 1 rfl rfl)
theorem dX3_mayCreep_4 : decode cX3_mayCreep 4 = .ok (.iload_n 1, 1) := dk_27 (dk_at dksX3_mayCreep_0 4 rfl rfl)
theorem dX3_mayCreep_5 : decode cX3_mayCreep 5 = .ok (.invokestatic 100, 3) := dk_184 0 100 (dk_at dksX3_mayCreep_0 5 rfl rfl)
theorem dX3_mayCreep_8 : decode cX3_mayCreep 8 = .ok (.ifCond .ne 41, 3) := dk_154 0 41 (dk_at dksX3_mayCreep_0 8 rfl rfl)
theorem dX3_mayCreep_11 : decode cX3_mayCreep 11 = .ok (.aload_n 0, 1) := dk_42 (dk_at dksX3_mayCreep_0 11 rfl rfl)
theorem dX3_mayCreep_12 : decode cX3_mayCreep 12 = .ok (.getfield 43, 3) := dk_180 0 43 (dk_at dksX3_mayCreep_0 12 rfl rfl)
theorem dX3_mayCreep_15 : decode cX3_mayCreep 15 = .ok (.iload_n 1, 1) := dk_27 (dk_at dksX3_mayCreep_0 15 rfl rfl)
theorem dX3_mayCreep_16 : decode cX3_mayCreep 16 = .ok (.invokestatic 100, 3) := dk_184 0 100 (dk_at dksX3_mayCreep_0 16 rfl rfl)
theorem dX3_mayCreep_19 : decode cX3_mayCreep 19 = .ok (.ifCond .ne 30, 3) := dk_154 0 30 (dk_at dksX3_mayCreep_0 19 rfl rfl)
theorem dX3_mayCreep_22 : decode cX3_mayCreep 22 = .ok (.aload_n 0, 1) := dk_42 (dk_at dksX3_mayCreep_0 22 rfl rfl)
theorem dX3_mayCreep_23 : decode cX3_mayCreep 23 = .ok (.getfield 25, 3) := dk_180 0 25 (dk_at dksX3_mayCreep_1 0 rfl rfl)
theorem dX3_mayCreep_26 : decode cX3_mayCreep 26 = .ok (.aload_n 0, 1) := dk_42 (dk_at dksX3_mayCreep_1 3 rfl rfl)
theorem dX3_mayCreep_27 : decode cX3_mayCreep 27 = .ok (.getfield 15, 3) := dk_180 0 15 (dk_at dksX3_mayCreep_1 4 rfl rfl)
theorem dX3_mayCreep_30 : decode cX3_mayCreep 30 = .ok (.iload_n 1, 1) := dk_27 (dk_at dksX3_mayCreep_1 7 rfl rfl)
theorem dX3_mayCreep_31 : decode cX3_mayCreep 31 = .ok (.iaload, 1) := dk_46 (dk_at dksX3_mayCreep_1 8 rfl rfl)
theorem dX3_mayCreep_32 : decode cX3_mayCreep 32 = .ok (.iload_n 2, 1) := dk_28 (dk_at dksX3_mayCreep_1 9 rfl rfl)
theorem dX3_mayCreep_33 : decode cX3_mayCreep 33 = .ok (.invokevirtual 104, 3) := dk_182 0 104 (dk_at dksX3_mayCreep_1 10 rfl rfl)
theorem dX3_mayCreep_36 : decode cX3_mayCreep 36 = .ok (.aload_n 0, 1) := dk_42 (dk_at dksX3_mayCreep_1 13 rfl rfl)
theorem dX3_mayCreep_37 : decode cX3_mayCreep 37 = .ok (.getfield 15, 3) := dk_180 0 15 (dk_at dksX3_mayCreep_1 14 rfl rfl)
theorem dX3_mayCreep_40 : decode cX3_mayCreep 40 = .ok (.iload_n 1, 1) := dk_27 (dk_at dksX3_mayCreep_1 17 rfl rfl)
theorem dX3_mayCreep_41 : decode cX3_mayCreep 41 = .ok (.iaload, 1) := dk_46 (dk_at dksX3_mayCreep_1 18 rfl rfl)
theorem dX3_mayCreep_42 : decode cX3_mayCreep 42 = .ok (.if_icmp .eq 7, 3) := dk_159 0 7 (dk_at dksX3_mayCreep_1 19 rfl rfl)
theorem dX3_mayCreep_45 : decode cX3_mayCreep 45 = .ok (.iconst 1, 1) := dk_4 (dk_at dksX3_mayCreep_1 22 rfl rfl)
theorem dX3_mayCreep_46 : decode cX3_mayCreep 46 = .ok (.goto 4, 3) := dk_167 0 4 (dk_at dksX3_mayCreep_2 0 rfl rfl)
theorem dX3_mayCreep_49 : decode cX3_mayCreep 49 = .ok (.iconst 0, 1) := dk_3 (dk_at dksX3_mayCreep_2 3 rfl rfl)
theorem dX3_mayCreep_50 : decode cX3_mayCreep 50 = .ok (.ireturn, 1) := dk_172 (dk_at dksX3_mayCreep_2 4 rfl rfl)
def dkwX3_copied_0 : List UInt8 := [187, 0, 10, 89, 183, 0, 84, 42, 182, 0, 85, 176]
abbrev dktX3_copied_0 : List UInt8 := dkwX3_copied_0 ++ []
theorem dksX3_copied_0 : cX3_copied.data.toList.drop 0 = dktX3_copied_0 := by decide +kernel
theorem dX3_copied_0 : decode cX3_copied 0 = .ok (.new 10, 3) := dk_187 0 10 (dk_at dksX3_copied_0 0 rfl rfl)
theorem dX3_copied_3 : decode cX3_copied 3 = .ok (.dup, 1) := dk_89 (dk_at dksX3_copied_0 3 rfl rfl)
theorem dX3_copied_4 : decode cX3_copied 4 = .ok (.invokespecial 84, 3) := dk_183 0 84 (dk_at dksX3_copied_0 4 rfl rfl)
theorem dX3_copied_7 : decode cX3_copied 7 = .ok (.aload_n 0, 1) := dk_42 (dk_at dksX3_copied_0 7 rfl rfl)
theorem dX3_copied_8 : decode cX3_copied 8 = .ok (.invokevirtual 85, 3) := dk_182 0 85 (dk_at dksX3_copied_0 8 rfl rfl)
theorem dX3_copied_11 : decode cX3_copied 11 = .ok (.areturn, 1) := dk_176 (dk_at dksX3_copied_0 11 rfl rfl)
def dkwX3_copies_4 : List UInt8 := [184, 0, 89, 42, 176]
abbrev dktX3_copies_4 : List UInt8 := dkwX3_copies_4 ++ []
def dkwX3_copies_3 : List UInt8 := [180, 0, 15, 3, 42, 180, 0, 15, 3, 7, 184, 0, 89, 43, 180, 0, 18, 3, 42, 180, 0, 18, 3, 7]
abbrev dktX3_copies_3 : List UInt8 := dkwX3_copies_3 ++ dktX3_copies_4
def dkwX3_copies_2 : List UInt8 := [42, 43, 180, 0, 49, 181, 0, 49, 43, 180, 0, 9, 3, 42, 180, 0, 9, 3, 8, 184, 0, 89, 43]
abbrev dktX3_copies_2 : List UInt8 := dkwX3_copies_2 ++ dktX3_copies_3
def dkwX3_copies_1 : List UInt8 := [42, 43, 180, 0, 40, 181, 0, 40, 42, 43, 180, 0, 43, 181, 0, 43, 42, 43, 180, 0, 46, 181, 0, 46]
abbrev dktX3_copies_1 : List UInt8 := dkwX3_copies_1 ++ dktX3_copies_2
def dkwX3_copies_0 : List UInt8 := [42, 43, 180, 0, 25, 181, 0, 25, 42, 43, 180, 0, 29, 181, 0, 29, 42, 43, 180, 0, 37, 181, 0, 37]
abbrev dktX3_copies_0 : List UInt8 := dkwX3_copies_0 ++ dktX3_copies_1
theorem dksX3_copies_0 : cX3_copies.data.toList.drop 0 = dktX3_copies_0 := by decide +kernel
theorem dksX3_copies_1 : cX3_copies.data.toList.drop 24 = dktX3_copies_1 := dk_seg dksX3_copies_0 24 rfl rfl
theorem dksX3_copies_2 : cX3_copies.data.toList.drop 48 = dktX3_copies_2 := dk_seg dksX3_copies_1 24 rfl rfl
theorem dksX3_copies_3 : cX3_copies.data.toList.drop 71 = dktX3_copies_3 := dk_seg dksX3_copies_2 23 rfl rfl
theorem dksX3_copies_4 : cX3_copies.data.toList.drop 95 = dktX3_copies_4 := dk_seg dksX3_copies_3 24 rfl rfl
theorem dX3_copies_0 : decode cX3_copies 0 = .ok (.aload_n 0, 1) := dk_42 (dk_at dksX3_copies_0 0 rfl rfl)
theorem dX3_copies_1 : decode cX3_copies 1 = .ok (.aload_n 1, 1) := dk_43 (dk_at dksX3_copies_0 1 rfl rfl)
theorem dX3_copies_2 : decode cX3_copies 2 = .ok (.getfield 25, 3) := dk_180 0 25 (dk_at dksX3_copies_0 2 rfl rfl)
theorem dX3_copies_5 : decode cX3_copies 5 = .ok (.putfield 25, 3) := dk_181 0 25 (dk_at dksX3_copies_0 5 rfl rfl)
theorem dX3_copies_8 : decode cX3_copies 8 = .ok (.aload_n 0, 1) := dk_42 (dk_at dksX3_copies_0 8 rfl rfl)
theorem dX3_copies_9 : decode cX3_copies 9 = .ok (.aload_n 1, 1) := dk_43 (dk_at dksX3_copies_0 9 rfl rfl)
theorem dX3_copies_10 : decode cX3_copies 10 = .ok (.getfield 29, 3) := dk_180 0 29 (dk_at dksX3_copies_0 10 rfl rfl)
theorem dX3_copies_13 : decode cX3_copies 13 = .ok (.putfield 29, 3) := dk_181 0 29 (dk_at dksX3_copies_0 13 rfl rfl)
theorem dX3_copies_16 : decode cX3_copies 16 = .ok (.aload_n 0, 1) := dk_42 (dk_at dksX3_copies_0 16 rfl rfl)
theorem dX3_copies_17 : decode cX3_copies 17 = .ok (.aload_n 1, 1) := dk_43 (dk_at dksX3_copies_0 17 rfl rfl)
theorem dX3_copies_18 : decode cX3_copies 18 = .ok (.getfield 37, 3) := dk_180 0 37 (dk_at dksX3_copies_0 18 rfl rfl)
theorem dX3_copies_21 : decode cX3_copies 21 = .ok (.putfield 37, 3) := dk_181 0 37 (dk_at dksX3_copies_0 21 rfl rfl)
theorem dX3_copies_24 : decode cX3_copies 24 = .ok (.aload_n 0, 1) := dk_42 (dk_at dksX3_copies_1 0 rfl rfl)
theorem dX3_copies_25 : decode cX3_copies 25 = .ok (.aload_n 1, 1) := dk_43 (dk_at dksX3_copies_1 1 rfl rfl)
theorem dX3_copies_26 : decode cX3_copies 26 = .ok (.getfield 40, 3) := dk_180 0 40 (dk_at dksX3_copies_1 2 rfl rfl)
theorem dX3_copies_29 : decode cX3_copies 29 = .ok (.putfield 40, 3) := dk_181 0 40 (dk_at dksX3_copies_1 5 rfl rfl)
theorem dX3_copies_32 : decode cX3_copies 32 = .ok (.aload_n 0, 1) := dk_42 (dk_at dksX3_copies_1 8 rfl rfl)
theorem dX3_copies_33 : decode cX3_copies 33 = .ok (.aload_n 1, 1) := dk_43 (dk_at dksX3_copies_1 9 rfl rfl)
theorem dX3_copies_34 : decode cX3_copies 34 = .ok (.getfield 43, 3) := dk_180 0 43 (dk_at dksX3_copies_1 10 rfl rfl)
theorem dX3_copies_37 : decode cX3_copies 37 = .ok (.putfield 43, 3) := dk_181 0 43 (dk_at dksX3_copies_1 13 rfl rfl)
theorem dX3_copies_40 : decode cX3_copies 40 = .ok (.aload_n 0, 1) := dk_42 (dk_at dksX3_copies_1 16 rfl rfl)
theorem dX3_copies_41 : decode cX3_copies 41 = .ok (.aload_n 1, 1) := dk_43 (dk_at dksX3_copies_1 17 rfl rfl)
theorem dX3_copies_42 : decode cX3_copies 42 = .ok (.getfield 46, 3) := dk_180 0 46 (dk_at dksX3_copies_1 18 rfl rfl)
theorem dX3_copies_45 : decode cX3_copies 45 = .ok (.putfield 46, 3) := dk_181 0 46 (dk_at dksX3_copies_1 21 rfl rfl)
theorem dX3_copies_48 : decode cX3_copies 48 = .ok (.aload_n 0, 1) := dk_42 (dk_at dksX3_copies_2 0 rfl rfl)
theorem dX3_copies_49 : decode cX3_copies 49 = .ok (.aload_n 1, 1) := dk_43 (dk_at dksX3_copies_2 1 rfl rfl)
theorem dX3_copies_50 : decode cX3_copies 50 = .ok (.getfield 49, 3) := dk_180 0 49 (dk_at dksX3_copies_2 2 rfl rfl)
theorem dX3_copies_53 : decode cX3_copies 53 = .ok (.putfield 49, 3) := dk_181 0 49 (dk_at dksX3_copies_2 5 rfl rfl)
theorem dX3_copies_56 : decode cX3_copies 56 = .ok (.aload_n 1, 1) := dk_43 (dk_at dksX3_copies_2 8 rfl rfl)
theorem dX3_copies_57 : decode cX3_copies 57 = .ok (.getfield 9, 3) := dk_180 0 9 (dk_at dksX3_copies_2 9 rfl rfl)
theorem dX3_copies_60 : decode cX3_copies 60 = .ok (.iconst 0, 1) := dk_3 (dk_at dksX3_copies_2 12 rfl rfl)
theorem dX3_copies_61 : decode cX3_copies 61 = .ok (.aload_n 0, 1) := dk_42 (dk_at dksX3_copies_2 13 rfl rfl)
theorem dX3_copies_62 : decode cX3_copies 62 = .ok (.getfield 9, 3) := dk_180 0 9 (dk_at dksX3_copies_2 14 rfl rfl)
theorem dX3_copies_65 : decode cX3_copies 65 = .ok (.iconst 0, 1) := dk_3 (dk_at dksX3_copies_2 17 rfl rfl)
theorem dX3_copies_66 : decode cX3_copies 66 = .ok (.iconst 5, 1) := dk_8 (dk_at dksX3_copies_2 18 rfl rfl)
theorem dX3_copies_67 : decode cX3_copies 67 = .ok (.invokestatic 89, 3) := dk_184 0 89 (dk_at dksX3_copies_2 19 rfl rfl)
theorem dX3_copies_70 : decode cX3_copies 70 = .ok (.aload_n 1, 1) := dk_43 (dk_at dksX3_copies_2 22 rfl rfl)
theorem dX3_copies_71 : decode cX3_copies 71 = .ok (.getfield 15, 3) := dk_180 0 15 (dk_at dksX3_copies_3 0 rfl rfl)
theorem dX3_copies_74 : decode cX3_copies 74 = .ok (.iconst 0, 1) := dk_3 (dk_at dksX3_copies_3 3 rfl rfl)
theorem dX3_copies_75 : decode cX3_copies 75 = .ok (.aload_n 0, 1) := dk_42 (dk_at dksX3_copies_3 4 rfl rfl)
theorem dX3_copies_76 : decode cX3_copies 76 = .ok (.getfield 15, 3) := dk_180 0 15 (dk_at dksX3_copies_3 5 rfl rfl)
theorem dX3_copies_79 : decode cX3_copies 79 = .ok (.iconst 0, 1) := dk_3 (dk_at dksX3_copies_3 8 rfl rfl)
theorem dX3_copies_80 : decode cX3_copies 80 = .ok (.iconst 4, 1) := dk_7 (dk_at dksX3_copies_3 9 rfl rfl)
theorem dX3_copies_81 : decode cX3_copies 81 = .ok (.invokestatic 89, 3) := dk_184 0 89 (dk_at dksX3_copies_3 10 rfl rfl)
theorem dX3_copies_84 : decode cX3_copies 84 = .ok (.aload_n 1, 1) := dk_43 (dk_at dksX3_copies_3 13 rfl rfl)
theorem dX3_copies_85 : decode cX3_copies 85 = .ok (.getfield 18, 3) := dk_180 0 18 (dk_at dksX3_copies_3 14 rfl rfl)
theorem dX3_copies_88 : decode cX3_copies 88 = .ok (.iconst 0, 1) := dk_3 (dk_at dksX3_copies_3 17 rfl rfl)
theorem dX3_copies_89 : decode cX3_copies 89 = .ok (.aload_n 0, 1) := dk_42 (dk_at dksX3_copies_3 18 rfl rfl)
theorem dX3_copies_90 : decode cX3_copies 90 = .ok (.getfield 18, 3) := dk_180 0 18 (dk_at dksX3_copies_3 19 rfl rfl)
theorem dX3_copies_93 : decode cX3_copies 93 = .ok (.iconst 0, 1) := dk_3 (dk_at dksX3_copies_3 22 rfl rfl)
theorem dX3_copies_94 : decode cX3_copies 94 = .ok (.iconst 4, 1) := dk_7 (dk_at dksX3_copies_3 23 rfl rfl)
theorem dX3_copies_95 : decode cX3_copies 95 = .ok (.invokestatic 89, 3) := dk_184 0 89 (dk_at dksX3_copies_4 0 rfl rfl)
theorem dX3_copies_98 : decode cX3_copies 98 = .ok (.aload_n 0, 1) := dk_42 (dk_at dksX3_copies_4 3 rfl rfl)
theorem dX3_copies_99 : decode cX3_copies 99 = .ok (.areturn, 1) := dk_176 (dk_at dksX3_copies_4 4 rfl rfl)
def dkwX3_creeps_1 : List UInt8 := [180, 0, 43, 4, 27, 120, 128, 181, 0, 43, 177]
abbrev dktX3_creeps_1 : List UInt8 := dkwX3_creeps_1 ++ []
def dkwX3_creeps_0 : List UInt8 := [42, 180, 0, 15, 27, 42, 180, 0, 25, 42, 180, 0, 15, 27, 46, 28, 182, 0, 104, 79, 42, 89]
abbrev dktX3_creeps_0 : List UInt8 := dkwX3_creeps_0 ++ dktX3_creeps_1
theorem dksX3_creeps_0 : cX3_creeps.data.toList.drop 0 = dktX3_creeps_0 := by decide +kernel
theorem dksX3_creeps_1 : cX3_creeps.data.toList.drop 22 = dktX3_creeps_1 := dk_seg dksX3_creeps_0 22 rfl rfl
theorem dX3_creeps_0 : decode cX3_creeps 0 = .ok (.aload_n 0, 1) := dk_42 (dk_at dksX3_creeps_0 0 rfl rfl)
theorem dX3_creeps_1 : decode cX3_creeps 1 = .ok (.getfield 15, 3) := dk_180 0 15 (dk_at dksX3_creeps_0 1 rfl rfl)
theorem dX3_creeps_4 : decode cX3_creeps 4 = .ok (.iload_n 1, 1) := dk_27 (dk_at dksX3_creeps_0 4 rfl rfl)
theorem dX3_creeps_5 : decode cX3_creeps 5 = .ok (.aload_n 0, 1) := dk_42 (dk_at dksX3_creeps_0 5 rfl rfl)
theorem dX3_creeps_6 : decode cX3_creeps 6 = .ok (.getfield 25, 3) := dk_180 0 25 (dk_at dksX3_creeps_0 6 rfl rfl)
theorem dX3_creeps_9 : decode cX3_creeps 9 = .ok (.aload_n 0, 1) := dk_42 (dk_at dksX3_creeps_0 9 rfl rfl)
theorem dX3_creeps_10 : decode cX3_creeps 10 = .ok (.getfield 15, 3) := dk_180 0 15 (dk_at dksX3_creeps_0 10 rfl rfl)
theorem dX3_creeps_13 : decode cX3_creeps 13 = .ok (.iload_n 1, 1) := dk_27 (dk_at dksX3_creeps_0 13 rfl rfl)
theorem dX3_creeps_14 : decode cX3_creeps 14 = .ok (.iaload, 1) := dk_46 (dk_at dksX3_creeps_0 14 rfl rfl)
theorem dX3_creeps_15 : decode cX3_creeps 15 = .ok (.iload_n 2, 1) := dk_28 (dk_at dksX3_creeps_0 15 rfl rfl)
theorem dX3_creeps_16 : decode cX3_creeps 16 = .ok (.invokevirtual 104, 3) := dk_182 0 104 (dk_at dksX3_creeps_0 16 rfl rfl)
theorem dX3_creeps_19 : decode cX3_creeps 19 = .ok (.iastore, 1) := dk_79 (dk_at dksX3_creeps_0 19 rfl rfl)
theorem dX3_creeps_20 : decode cX3_creeps 20 = .ok (.aload_n 0, 1) := dk_42 (dk_at dksX3_creeps_0 20 rfl rfl)
theorem dX3_creeps_21 : decode cX3_creeps 21 = .ok (.dup, 1) := dk_89 (dk_at dksX3_creeps_0 21 rfl rfl)
theorem dX3_creeps_22 : decode cX3_creeps 22 = .ok (.getfield 43, 3) := dk_180 0 43 (dk_at dksX3_creeps_1 0 rfl rfl)
theorem dX3_creeps_25 : decode cX3_creeps 25 = .ok (.iconst 1, 1) := dk_4 (dk_at dksX3_creeps_1 3 rfl rfl)
theorem dX3_creeps_26 : decode cX3_creeps 26 = .ok (.iload_n 1, 1) := dk_27 (dk_at dksX3_creeps_1 4 rfl rfl)
theorem dX3_creeps_27 : decode cX3_creeps 27 = .ok (.ishl, 1) := dk_120 (dk_at dksX3_creeps_1 5 rfl rfl)
theorem dX3_creeps_28 : decode cX3_creeps 28 = .ok (.ior, 1) := dk_128 (dk_at dksX3_creeps_1 6 rfl rfl)
theorem dX3_creeps_29 : decode cX3_creeps 29 = .ok (.putfield 43, 3) := dk_181 0 43 (dk_at dksX3_creeps_1 7 rfl rfl)
theorem dX3_creeps_32 : decode cX3_creeps 32 = .ok (.return_, 1) := dk_177 (dk_at dksX3_creeps_1 10 rfl rfl)
def dkwX3_passes_0 : List UInt8 := [42, 42, 180, 0, 25, 42, 180, 0, 29, 182, 0, 137, 182, 0, 140, 172]
abbrev dktX3_passes_0 : List UInt8 := dkwX3_passes_0 ++ []
theorem dksX3_passes_0 : cX3_passes.data.toList.drop 0 = dktX3_passes_0 := by decide +kernel
theorem dX3_passes_0 : decode cX3_passes 0 = .ok (.aload_n 0, 1) := dk_42 (dk_at dksX3_passes_0 0 rfl rfl)
theorem dX3_passes_1 : decode cX3_passes 1 = .ok (.aload_n 0, 1) := dk_42 (dk_at dksX3_passes_0 1 rfl rfl)
theorem dX3_passes_2 : decode cX3_passes 2 = .ok (.getfield 25, 3) := dk_180 0 25 (dk_at dksX3_passes_0 2 rfl rfl)
theorem dX3_passes_5 : decode cX3_passes 5 = .ok (.aload_n 0, 1) := dk_42 (dk_at dksX3_passes_0 5 rfl rfl)
theorem dX3_passes_6 : decode cX3_passes 6 = .ok (.getfield 29, 3) := dk_180 0 29 (dk_at dksX3_passes_0 6 rfl rfl)
theorem dX3_passes_9 : decode cX3_passes 9 = .ok (.invokevirtual 137, 3) := dk_182 0 137 (dk_at dksX3_passes_0 9 rfl rfl)
theorem dX3_passes_12 : decode cX3_passes 12 = .ok (.invokevirtual 140, 3) := dk_182 0 140 (dk_at dksX3_passes_0 12 rfl rfl)
theorem dX3_passes_15 : decode cX3_passes 15 = .ok (.ireturn, 1) := dk_172 (dk_at dksX3_passes_0 15 rfl rfl)
def dkwX3_passes_2_6 : List UInt8 := [182, 0, 134, 42, 89, 180, 0, 29, 4, 96, 181, 0, 29, 42, 3, 181, 0, 43, 28, 172]
abbrev dktX3_passes_2_6 : List UInt8 := dkwX3_passes_2_6 ++ []
def dkwX3_passes_2_5 : List UInt8 := [29, 182, 0, 52, 182, 0, 130, 153, 0, 10, 42, 180, 0, 9, 29, 2, 79, 132, 3, 1, 167, 255, 219, 42]
abbrev dktX3_passes_2_5 : List UInt8 := dkwX3_passes_2_5 ++ dktX3_passes_2_6
def dkwX3_passes_2_4 : List UInt8 := [130, 126, 181, 0, 37, 3, 62, 29, 42, 182, 0, 33, 162, 0, 35, 28, 29, 184, 0, 100, 153, 0, 21, 42]
abbrev dktX3_passes_2_4 : List UInt8 := dkwX3_passes_2_4 ++ dktX3_passes_2_5
def dkwX3_passes_2_3 : List UInt8 := [4, 29, 120, 128, 61, 132, 4, 1, 167, 255, 200, 132, 3, 1, 167, 255, 183, 42, 89, 180, 0, 37, 28, 2]
abbrev dktX3_passes_2_3 : List UInt8 := dkwX3_passes_2_3 ++ dktX3_passes_2_4
def dkwX3_passes_2_2 : List UInt8 := [27, 182, 0, 126, 154, 0, 6, 167, 0, 22, 42, 89, 180, 0, 49, 4, 21, 4, 120, 128, 181, 0, 49, 28]
abbrev dktX3_passes_2_2 : List UInt8 := dkwX3_passes_2_2 ++ dktX3_passes_2_3
def dkwX3_passes_2_1 : List UInt8 := [21, 4, 42, 182, 0, 67, 162, 0, 53, 42, 180, 0, 37, 29, 184, 0, 100, 153, 0, 42, 42, 29, 21, 4]
abbrev dktX3_passes_2_1 : List UInt8 := dkwX3_passes_2_1 ++ dktX3_passes_2_2
def dkwX3_passes_2_0 : List UInt8 := [42, 182, 0, 123, 42, 3, 181, 0, 49, 3, 61, 3, 62, 29, 42, 182, 0, 33, 162, 0, 71, 3, 54, 4]
abbrev dktX3_passes_2_0 : List UInt8 := dkwX3_passes_2_0 ++ dktX3_passes_2_1
theorem dksX3_passes_2_0 : cX3_passes_2.data.toList.drop 0 = dktX3_passes_2_0 := by decide +kernel
theorem dksX3_passes_2_1 : cX3_passes_2.data.toList.drop 24 = dktX3_passes_2_1 := dk_seg dksX3_passes_2_0 24 rfl rfl
theorem dksX3_passes_2_2 : cX3_passes_2.data.toList.drop 48 = dktX3_passes_2_2 := dk_seg dksX3_passes_2_1 24 rfl rfl
theorem dksX3_passes_2_3 : cX3_passes_2.data.toList.drop 72 = dktX3_passes_2_3 := dk_seg dksX3_passes_2_2 24 rfl rfl
theorem dksX3_passes_2_4 : cX3_passes_2.data.toList.drop 96 = dktX3_passes_2_4 := dk_seg dksX3_passes_2_3 24 rfl rfl
theorem dksX3_passes_2_5 : cX3_passes_2.data.toList.drop 120 = dktX3_passes_2_5 := dk_seg dksX3_passes_2_4 24 rfl rfl
theorem dksX3_passes_2_6 : cX3_passes_2.data.toList.drop 144 = dktX3_passes_2_6 := dk_seg dksX3_passes_2_5 24 rfl rfl
theorem dX3_passes_2_0 : decode cX3_passes_2 0 = .ok (.aload_n 0, 1) := dk_42 (dk_at dksX3_passes_2_0 0 rfl rfl)
theorem dX3_passes_2_1 : decode cX3_passes_2 1 = .ok (.invokevirtual 123, 3) := dk_182 0 123 (dk_at dksX3_passes_2_0 1 rfl rfl)
theorem dX3_passes_2_4 : decode cX3_passes_2 4 = .ok (.aload_n 0, 1) := dk_42 (dk_at dksX3_passes_2_0 4 rfl rfl)
theorem dX3_passes_2_5 : decode cX3_passes_2 5 = .ok (.iconst 0, 1) := dk_3 (dk_at dksX3_passes_2_0 5 rfl rfl)
theorem dX3_passes_2_6 : decode cX3_passes_2 6 = .ok (.putfield 49, 3) := dk_181 0 49 (dk_at dksX3_passes_2_0 6 rfl rfl)
theorem dX3_passes_2_9 : decode cX3_passes_2 9 = .ok (.iconst 0, 1) := dk_3 (dk_at dksX3_passes_2_0 9 rfl rfl)
theorem dX3_passes_2_10 : decode cX3_passes_2 10 = .ok (.istore_n 2, 1) := dk_61 (dk_at dksX3_passes_2_0 10 rfl rfl)
theorem dX3_passes_2_11 : decode cX3_passes_2 11 = .ok (.iconst 0, 1) := dk_3 (dk_at dksX3_passes_2_0 11 rfl rfl)
theorem dX3_passes_2_12 : decode cX3_passes_2 12 = .ok (.istore_n 3, 1) := dk_62 (dk_at dksX3_passes_2_0 12 rfl rfl)
theorem dX3_passes_2_13 : decode cX3_passes_2 13 = .ok (.iload_n 3, 1) := dk_29 (dk_at dksX3_passes_2_0 13 rfl rfl)
theorem dX3_passes_2_14 : decode cX3_passes_2 14 = .ok (.aload_n 0, 1) := dk_42 (dk_at dksX3_passes_2_0 14 rfl rfl)
theorem dX3_passes_2_15 : decode cX3_passes_2 15 = .ok (.invokevirtual 33, 3) := dk_182 0 33 (dk_at dksX3_passes_2_0 15 rfl rfl)
theorem dX3_passes_2_18 : decode cX3_passes_2 18 = .ok (.if_icmp .ge 71, 3) := dk_162 0 71 (dk_at dksX3_passes_2_0 18 rfl rfl)
theorem dX3_passes_2_21 : decode cX3_passes_2 21 = .ok (.iconst 0, 1) := dk_3 (dk_at dksX3_passes_2_0 21 rfl rfl)
theorem dX3_passes_2_22 : decode cX3_passes_2 22 = .ok (.istore 4, 2) := dk_54 4 (dk_at dksX3_passes_2_0 22 rfl rfl)
theorem dX3_passes_2_24 : decode cX3_passes_2 24 = .ok (.iload 4, 2) := dk_21 4 (dk_at dksX3_passes_2_1 0 rfl rfl)
theorem dX3_passes_2_26 : decode cX3_passes_2 26 = .ok (.aload_n 0, 1) := dk_42 (dk_at dksX3_passes_2_1 2 rfl rfl)
theorem dX3_passes_2_27 : decode cX3_passes_2 27 = .ok (.invokevirtual 67, 3) := dk_182 0 67 (dk_at dksX3_passes_2_1 3 rfl rfl)
theorem dX3_passes_2_30 : decode cX3_passes_2 30 = .ok (.if_icmp .ge 53, 3) := dk_162 0 53 (dk_at dksX3_passes_2_1 6 rfl rfl)
theorem dX3_passes_2_33 : decode cX3_passes_2 33 = .ok (.aload_n 0, 1) := dk_42 (dk_at dksX3_passes_2_1 9 rfl rfl)
theorem dX3_passes_2_34 : decode cX3_passes_2 34 = .ok (.getfield 37, 3) := dk_180 0 37 (dk_at dksX3_passes_2_1 10 rfl rfl)
theorem dX3_passes_2_37 : decode cX3_passes_2 37 = .ok (.iload_n 3, 1) := dk_29 (dk_at dksX3_passes_2_1 13 rfl rfl)
theorem dX3_passes_2_38 : decode cX3_passes_2 38 = .ok (.invokestatic 100, 3) := dk_184 0 100 (dk_at dksX3_passes_2_1 14 rfl rfl)
theorem dX3_passes_2_41 : decode cX3_passes_2 41 = .ok (.ifCond .eq 42, 3) := dk_153 0 42 (dk_at dksX3_passes_2_1 17 rfl rfl)
theorem dX3_passes_2_44 : decode cX3_passes_2 44 = .ok (.aload_n 0, 1) := dk_42 (dk_at dksX3_passes_2_1 20 rfl rfl)
theorem dX3_passes_2_45 : decode cX3_passes_2 45 = .ok (.iload_n 3, 1) := dk_29 (dk_at dksX3_passes_2_1 21 rfl rfl)
theorem dX3_passes_2_46 : decode cX3_passes_2 46 = .ok (.iload 4, 2) := dk_21 4 (dk_at dksX3_passes_2_1 22 rfl rfl)
theorem dX3_passes_2_48 : decode cX3_passes_2 48 = .ok (.iload_n 1, 1) := dk_27 (dk_at dksX3_passes_2_2 0 rfl rfl)
theorem dX3_passes_2_49 : decode cX3_passes_2 49 = .ok (.invokevirtual 126, 3) := dk_182 0 126 (dk_at dksX3_passes_2_2 1 rfl rfl)
theorem dX3_passes_2_52 : decode cX3_passes_2 52 = .ok (.ifCond .ne 6, 3) := dk_154 0 6 (dk_at dksX3_passes_2_2 4 rfl rfl)
theorem dX3_passes_2_55 : decode cX3_passes_2 55 = .ok (.goto 22, 3) := dk_167 0 22 (dk_at dksX3_passes_2_2 7 rfl rfl)
theorem dX3_passes_2_58 : decode cX3_passes_2 58 = .ok (.aload_n 0, 1) := dk_42 (dk_at dksX3_passes_2_2 10 rfl rfl)
theorem dX3_passes_2_59 : decode cX3_passes_2 59 = .ok (.dup, 1) := dk_89 (dk_at dksX3_passes_2_2 11 rfl rfl)
theorem dX3_passes_2_60 : decode cX3_passes_2 60 = .ok (.getfield 49, 3) := dk_180 0 49 (dk_at dksX3_passes_2_2 12 rfl rfl)
theorem dX3_passes_2_63 : decode cX3_passes_2 63 = .ok (.iconst 1, 1) := dk_4 (dk_at dksX3_passes_2_2 15 rfl rfl)
theorem dX3_passes_2_64 : decode cX3_passes_2 64 = .ok (.iload 4, 2) := dk_21 4 (dk_at dksX3_passes_2_2 16 rfl rfl)
theorem dX3_passes_2_66 : decode cX3_passes_2 66 = .ok (.ishl, 1) := dk_120 (dk_at dksX3_passes_2_2 18 rfl rfl)
theorem dX3_passes_2_67 : decode cX3_passes_2 67 = .ok (.ior, 1) := dk_128 (dk_at dksX3_passes_2_2 19 rfl rfl)
theorem dX3_passes_2_68 : decode cX3_passes_2 68 = .ok (.putfield 49, 3) := dk_181 0 49 (dk_at dksX3_passes_2_2 20 rfl rfl)
theorem dX3_passes_2_71 : decode cX3_passes_2 71 = .ok (.iload_n 2, 1) := dk_28 (dk_at dksX3_passes_2_2 23 rfl rfl)
theorem dX3_passes_2_72 : decode cX3_passes_2 72 = .ok (.iconst 1, 1) := dk_4 (dk_at dksX3_passes_2_3 0 rfl rfl)
theorem dX3_passes_2_73 : decode cX3_passes_2 73 = .ok (.iload_n 3, 1) := dk_29 (dk_at dksX3_passes_2_3 1 rfl rfl)
theorem dX3_passes_2_74 : decode cX3_passes_2 74 = .ok (.ishl, 1) := dk_120 (dk_at dksX3_passes_2_3 2 rfl rfl)
theorem dX3_passes_2_75 : decode cX3_passes_2 75 = .ok (.ior, 1) := dk_128 (dk_at dksX3_passes_2_3 3 rfl rfl)
theorem dX3_passes_2_76 : decode cX3_passes_2 76 = .ok (.istore_n 2, 1) := dk_61 (dk_at dksX3_passes_2_3 4 rfl rfl)
theorem dX3_passes_2_77 : decode cX3_passes_2 77 = .ok (.iinc 4 1, 3) := dk_132 4 1 (dk_at dksX3_passes_2_3 5 rfl rfl)
theorem dX3_passes_2_80 : decode cX3_passes_2 80 = .ok (.goto (-56), 3) := dk_167 255 200 (dk_at dksX3_passes_2_3 8 rfl rfl)
theorem dX3_passes_2_83 : decode cX3_passes_2 83 = .ok (.iinc 3 1, 3) := dk_132 3 1 (dk_at dksX3_passes_2_3 11 rfl rfl)
theorem dX3_passes_2_86 : decode cX3_passes_2 86 = .ok (.goto (-73), 3) := dk_167 255 183 (dk_at dksX3_passes_2_3 14 rfl rfl)
theorem dX3_passes_2_89 : decode cX3_passes_2 89 = .ok (.aload_n 0, 1) := dk_42 (dk_at dksX3_passes_2_3 17 rfl rfl)
theorem dX3_passes_2_90 : decode cX3_passes_2 90 = .ok (.dup, 1) := dk_89 (dk_at dksX3_passes_2_3 18 rfl rfl)
theorem dX3_passes_2_91 : decode cX3_passes_2 91 = .ok (.getfield 37, 3) := dk_180 0 37 (dk_at dksX3_passes_2_3 19 rfl rfl)
theorem dX3_passes_2_94 : decode cX3_passes_2 94 = .ok (.iload_n 2, 1) := dk_28 (dk_at dksX3_passes_2_3 22 rfl rfl)
theorem dX3_passes_2_95 : decode cX3_passes_2 95 = .ok (.iconst (-1), 1) := dk_2 (dk_at dksX3_passes_2_3 23 rfl rfl)
theorem dX3_passes_2_96 : decode cX3_passes_2 96 = .ok (.ixor, 1) := dk_130 (dk_at dksX3_passes_2_4 0 rfl rfl)
theorem dX3_passes_2_97 : decode cX3_passes_2 97 = .ok (.iand, 1) := dk_126 (dk_at dksX3_passes_2_4 1 rfl rfl)
theorem dX3_passes_2_98 : decode cX3_passes_2 98 = .ok (.putfield 37, 3) := dk_181 0 37 (dk_at dksX3_passes_2_4 2 rfl rfl)
theorem dX3_passes_2_101 : decode cX3_passes_2 101 = .ok (.iconst 0, 1) := dk_3 (dk_at dksX3_passes_2_4 5 rfl rfl)
theorem dX3_passes_2_102 : decode cX3_passes_2 102 = .ok (.istore_n 3, 1) := dk_62 (dk_at dksX3_passes_2_4 6 rfl rfl)
theorem dX3_passes_2_103 : decode cX3_passes_2 103 = .ok (.iload_n 3, 1) := dk_29 (dk_at dksX3_passes_2_4 7 rfl rfl)
theorem dX3_passes_2_104 : decode cX3_passes_2 104 = .ok (.aload_n 0, 1) := dk_42 (dk_at dksX3_passes_2_4 8 rfl rfl)
theorem dX3_passes_2_105 : decode cX3_passes_2 105 = .ok (.invokevirtual 33, 3) := dk_182 0 33 (dk_at dksX3_passes_2_4 9 rfl rfl)
theorem dX3_passes_2_108 : decode cX3_passes_2 108 = .ok (.if_icmp .ge 35, 3) := dk_162 0 35 (dk_at dksX3_passes_2_4 12 rfl rfl)
theorem dX3_passes_2_111 : decode cX3_passes_2 111 = .ok (.iload_n 2, 1) := dk_28 (dk_at dksX3_passes_2_4 15 rfl rfl)
theorem dX3_passes_2_112 : decode cX3_passes_2 112 = .ok (.iload_n 3, 1) := dk_29 (dk_at dksX3_passes_2_4 16 rfl rfl)
theorem dX3_passes_2_113 : decode cX3_passes_2 113 = .ok (.invokestatic 100, 3) := dk_184 0 100 (dk_at dksX3_passes_2_4 17 rfl rfl)
theorem dX3_passes_2_116 : decode cX3_passes_2 116 = .ok (.ifCond .eq 21, 3) := dk_153 0 21 (dk_at dksX3_passes_2_4 20 rfl rfl)
theorem dX3_passes_2_119 : decode cX3_passes_2 119 = .ok (.aload_n 0, 1) := dk_42 (dk_at dksX3_passes_2_4 23 rfl rfl)
theorem dX3_passes_2_120 : decode cX3_passes_2 120 = .ok (.iload_n 3, 1) := dk_29 (dk_at dksX3_passes_2_5 0 rfl rfl)
theorem dX3_passes_2_121 : decode cX3_passes_2 121 = .ok (.invokevirtual 52, 3) := dk_182 0 52 (dk_at dksX3_passes_2_5 1 rfl rfl)
theorem dX3_passes_2_124 : decode cX3_passes_2 124 = .ok (.invokevirtual 130, 3) := dk_182 0 130 (dk_at dksX3_passes_2_5 4 rfl rfl)
theorem dX3_passes_2_127 : decode cX3_passes_2 127 = .ok (.ifCond .eq 10, 3) := dk_153 0 10 (dk_at dksX3_passes_2_5 7 rfl rfl)
theorem dX3_passes_2_130 : decode cX3_passes_2 130 = .ok (.aload_n 0, 1) := dk_42 (dk_at dksX3_passes_2_5 10 rfl rfl)
theorem dX3_passes_2_131 : decode cX3_passes_2 131 = .ok (.getfield 9, 3) := dk_180 0 9 (dk_at dksX3_passes_2_5 11 rfl rfl)
theorem dX3_passes_2_134 : decode cX3_passes_2 134 = .ok (.iload_n 3, 1) := dk_29 (dk_at dksX3_passes_2_5 14 rfl rfl)
theorem dX3_passes_2_135 : decode cX3_passes_2 135 = .ok (.iconst (-1), 1) := dk_2 (dk_at dksX3_passes_2_5 15 rfl rfl)
theorem dX3_passes_2_136 : decode cX3_passes_2 136 = .ok (.iastore, 1) := dk_79 (dk_at dksX3_passes_2_5 16 rfl rfl)
theorem dX3_passes_2_137 : decode cX3_passes_2 137 = .ok (.iinc 3 1, 3) := dk_132 3 1 (dk_at dksX3_passes_2_5 17 rfl rfl)
theorem dX3_passes_2_140 : decode cX3_passes_2 140 = .ok (.goto (-37), 3) := dk_167 255 219 (dk_at dksX3_passes_2_5 20 rfl rfl)
theorem dX3_passes_2_143 : decode cX3_passes_2 143 = .ok (.aload_n 0, 1) := dk_42 (dk_at dksX3_passes_2_5 23 rfl rfl)
theorem dX3_passes_2_144 : decode cX3_passes_2 144 = .ok (.invokevirtual 134, 3) := dk_182 0 134 (dk_at dksX3_passes_2_6 0 rfl rfl)
theorem dX3_passes_2_147 : decode cX3_passes_2 147 = .ok (.aload_n 0, 1) := dk_42 (dk_at dksX3_passes_2_6 3 rfl rfl)
theorem dX3_passes_2_148 : decode cX3_passes_2 148 = .ok (.dup, 1) := dk_89 (dk_at dksX3_passes_2_6 4 rfl rfl)
theorem dX3_passes_2_149 : decode cX3_passes_2 149 = .ok (.getfield 29, 3) := dk_180 0 29 (dk_at dksX3_passes_2_6 5 rfl rfl)
theorem dX3_passes_2_152 : decode cX3_passes_2 152 = .ok (.iconst 1, 1) := dk_4 (dk_at dksX3_passes_2_6 8 rfl rfl)
theorem dX3_passes_2_153 : decode cX3_passes_2 153 = .ok (.iadd, 1) := dk_96 (dk_at dksX3_passes_2_6 9 rfl rfl)
theorem dX3_passes_2_154 : decode cX3_passes_2 154 = .ok (.putfield 29, 3) := dk_181 0 29 (dk_at dksX3_passes_2_6 10 rfl rfl)
theorem dX3_passes_2_157 : decode cX3_passes_2 157 = .ok (.aload_n 0, 1) := dk_42 (dk_at dksX3_passes_2_6 13 rfl rfl)
theorem dX3_passes_2_158 : decode cX3_passes_2 158 = .ok (.iconst 0, 1) := dk_3 (dk_at dksX3_passes_2_6 14 rfl rfl)
theorem dX3_passes_2_159 : decode cX3_passes_2 159 = .ok (.putfield 43, 3) := dk_181 0 43 (dk_at dksX3_passes_2_6 15 rfl rfl)
theorem dX3_passes_2_162 : decode cX3_passes_2 162 = .ok (.iload_n 2, 1) := dk_28 (dk_at dksX3_passes_2_6 18 rfl rfl)
theorem dX3_passes_2_163 : decode cX3_passes_2 163 = .ok (.ireturn, 1) := dk_172 (dk_at dksX3_passes_2_6 19 rfl rfl)
def dkwX3_walk_3 : List UInt8 := [167, 0, 4, 3, 84, 132, 1, 1, 167, 255, 180, 177]
abbrev dktX3_walk_3 : List UInt8 := dkwX3_walk_3 ++ []
def dkwX3_walk_2 : List UInt8 := [180, 0, 29, 182, 0, 108, 79, 42, 180, 0, 21, 27, 42, 180, 0, 9, 27, 46, 28, 160, 0, 7, 4]
abbrev dktX3_walk_2 : List UInt8 := dkwX3_walk_2 ++ dktX3_walk_3
def dkwX3_walk_1 : List UInt8 := [42, 180, 0, 9, 27, 46, 61, 42, 180, 0, 9, 27, 42, 27, 182, 0, 52, 42, 180, 0, 25, 28, 42]
abbrev dktX3_walk_1 : List UInt8 := dkwX3_walk_1 ++ dktX3_walk_2
def dkwX3_walk_0 : List UInt8 := [3, 60, 27, 42, 182, 0, 33, 162, 0, 74, 42, 180, 0, 37, 27, 184, 0, 100, 154, 0, 6, 167, 0, 54]
abbrev dktX3_walk_0 : List UInt8 := dkwX3_walk_0 ++ dktX3_walk_1
theorem dksX3_walk_0 : cX3_walk.data.toList.drop 0 = dktX3_walk_0 := by decide +kernel
theorem dksX3_walk_1 : cX3_walk.data.toList.drop 24 = dktX3_walk_1 := dk_seg dksX3_walk_0 24 rfl rfl
theorem dksX3_walk_2 : cX3_walk.data.toList.drop 47 = dktX3_walk_2 := dk_seg dksX3_walk_1 23 rfl rfl
theorem dksX3_walk_3 : cX3_walk.data.toList.drop 70 = dktX3_walk_3 := dk_seg dksX3_walk_2 23 rfl rfl
theorem dX3_walk_0 : decode cX3_walk 0 = .ok (.iconst 0, 1) := dk_3 (dk_at dksX3_walk_0 0 rfl rfl)
theorem dX3_walk_1 : decode cX3_walk 1 = .ok (.istore_n 1, 1) := dk_60 (dk_at dksX3_walk_0 1 rfl rfl)
theorem dX3_walk_2 : decode cX3_walk 2 = .ok (.iload_n 1, 1) := dk_27 (dk_at dksX3_walk_0 2 rfl rfl)
theorem dX3_walk_3 : decode cX3_walk 3 = .ok (.aload_n 0, 1) := dk_42 (dk_at dksX3_walk_0 3 rfl rfl)
theorem dX3_walk_4 : decode cX3_walk 4 = .ok (.invokevirtual 33, 3) := dk_182 0 33 (dk_at dksX3_walk_0 4 rfl rfl)
theorem dX3_walk_7 : decode cX3_walk 7 = .ok (.if_icmp .ge 74, 3) := dk_162 0 74 (dk_at dksX3_walk_0 7 rfl rfl)
theorem dX3_walk_10 : decode cX3_walk 10 = .ok (.aload_n 0, 1) := dk_42 (dk_at dksX3_walk_0 10 rfl rfl)
theorem dX3_walk_11 : decode cX3_walk 11 = .ok (.getfield 37, 3) := dk_180 0 37 (dk_at dksX3_walk_0 11 rfl rfl)
theorem dX3_walk_14 : decode cX3_walk 14 = .ok (.iload_n 1, 1) := dk_27 (dk_at dksX3_walk_0 14 rfl rfl)
theorem dX3_walk_15 : decode cX3_walk 15 = .ok (.invokestatic 100, 3) := dk_184 0 100 (dk_at dksX3_walk_0 15 rfl rfl)
theorem dX3_walk_18 : decode cX3_walk 18 = .ok (.ifCond .ne 6, 3) := dk_154 0 6 (dk_at dksX3_walk_0 18 rfl rfl)
theorem dX3_walk_21 : decode cX3_walk 21 = .ok (.goto 54, 3) := dk_167 0 54 (dk_at dksX3_walk_0 21 rfl rfl)
theorem dX3_walk_24 : decode cX3_walk 24 = .ok (.aload_n 0, 1) := dk_42 (dk_at dksX3_walk_1 0 rfl rfl)
theorem dX3_walk_25 : decode cX3_walk 25 = .ok (.getfield 9, 3) := dk_180 0 9 (dk_at dksX3_walk_1 1 rfl rfl)
theorem dX3_walk_28 : decode cX3_walk 28 = .ok (.iload_n 1, 1) := dk_27 (dk_at dksX3_walk_1 4 rfl rfl)
theorem dX3_walk_29 : decode cX3_walk 29 = .ok (.iaload, 1) := dk_46 (dk_at dksX3_walk_1 5 rfl rfl)
theorem dX3_walk_30 : decode cX3_walk 30 = .ok (.istore_n 2, 1) := dk_61 (dk_at dksX3_walk_1 6 rfl rfl)
theorem dX3_walk_31 : decode cX3_walk 31 = .ok (.aload_n 0, 1) := dk_42 (dk_at dksX3_walk_1 7 rfl rfl)
theorem dX3_walk_32 : decode cX3_walk 32 = .ok (.getfield 9, 3) := dk_180 0 9 (dk_at dksX3_walk_1 8 rfl rfl)
theorem dX3_walk_35 : decode cX3_walk 35 = .ok (.iload_n 1, 1) := dk_27 (dk_at dksX3_walk_1 11 rfl rfl)
theorem dX3_walk_36 : decode cX3_walk 36 = .ok (.aload_n 0, 1) := dk_42 (dk_at dksX3_walk_1 12 rfl rfl)
theorem dX3_walk_37 : decode cX3_walk 37 = .ok (.iload_n 1, 1) := dk_27 (dk_at dksX3_walk_1 13 rfl rfl)
theorem dX3_walk_38 : decode cX3_walk 38 = .ok (.invokevirtual 52, 3) := dk_182 0 52 (dk_at dksX3_walk_1 14 rfl rfl)
theorem dX3_walk_41 : decode cX3_walk 41 = .ok (.aload_n 0, 1) := dk_42 (dk_at dksX3_walk_1 17 rfl rfl)
theorem dX3_walk_42 : decode cX3_walk 42 = .ok (.getfield 25, 3) := dk_180 0 25 (dk_at dksX3_walk_1 18 rfl rfl)
theorem dX3_walk_45 : decode cX3_walk 45 = .ok (.iload_n 2, 1) := dk_28 (dk_at dksX3_walk_1 21 rfl rfl)
theorem dX3_walk_46 : decode cX3_walk 46 = .ok (.aload_n 0, 1) := dk_42 (dk_at dksX3_walk_1 22 rfl rfl)
theorem dX3_walk_47 : decode cX3_walk 47 = .ok (.getfield 29, 3) := dk_180 0 29 (dk_at dksX3_walk_2 0 rfl rfl)
theorem dX3_walk_50 : decode cX3_walk 50 = .ok (.invokevirtual 108, 3) := dk_182 0 108 (dk_at dksX3_walk_2 3 rfl rfl)
theorem dX3_walk_53 : decode cX3_walk 53 = .ok (.iastore, 1) := dk_79 (dk_at dksX3_walk_2 6 rfl rfl)
theorem dX3_walk_54 : decode cX3_walk 54 = .ok (.aload_n 0, 1) := dk_42 (dk_at dksX3_walk_2 7 rfl rfl)
theorem dX3_walk_55 : decode cX3_walk 55 = .ok (.getfield 21, 3) := dk_180 0 21 (dk_at dksX3_walk_2 8 rfl rfl)
theorem dX3_walk_58 : decode cX3_walk 58 = .ok (.iload_n 1, 1) := dk_27 (dk_at dksX3_walk_2 11 rfl rfl)
theorem dX3_walk_59 : decode cX3_walk 59 = .ok (.aload_n 0, 1) := dk_42 (dk_at dksX3_walk_2 12 rfl rfl)
theorem dX3_walk_60 : decode cX3_walk 60 = .ok (.getfield 9, 3) := dk_180 0 9 (dk_at dksX3_walk_2 13 rfl rfl)
theorem dX3_walk_63 : decode cX3_walk 63 = .ok (.iload_n 1, 1) := dk_27 (dk_at dksX3_walk_2 16 rfl rfl)
theorem dX3_walk_64 : decode cX3_walk 64 = .ok (.iaload, 1) := dk_46 (dk_at dksX3_walk_2 17 rfl rfl)
theorem dX3_walk_65 : decode cX3_walk 65 = .ok (.iload_n 2, 1) := dk_28 (dk_at dksX3_walk_2 18 rfl rfl)
theorem dX3_walk_66 : decode cX3_walk 66 = .ok (.if_icmp .ne 7, 3) := dk_160 0 7 (dk_at dksX3_walk_2 19 rfl rfl)
theorem dX3_walk_69 : decode cX3_walk 69 = .ok (.iconst 1, 1) := dk_4 (dk_at dksX3_walk_2 22 rfl rfl)
theorem dX3_walk_70 : decode cX3_walk 70 = .ok (.goto 4, 3) := dk_167 0 4 (dk_at dksX3_walk_3 0 rfl rfl)
theorem dX3_walk_73 : decode cX3_walk 73 = .ok (.iconst 0, 1) := dk_3 (dk_at dksX3_walk_3 3 rfl rfl)
theorem dX3_walk_74 : decode cX3_walk 74 = .ok (.bastore, 1) := dk_84 (dk_at dksX3_walk_3 4 rfl rfl)
theorem dX3_walk_75 : decode cX3_walk 75 = .ok (.iinc 1 1, 3) := dk_132 1 1 (dk_at dksX3_walk_3 5 rfl rfl)
theorem dX3_walk_78 : decode cX3_walk 78 = .ok (.goto (-76), 3) := dk_167 255 180 (dk_at dksX3_walk_3 8 rfl rfl)
theorem dX3_walk_81 : decode cX3_walk 81 = .ok (.return_, 1) := dk_177 (dk_at dksX3_walk_3 11 rfl rfl)
def dkwX3_hears_3 : List UInt8 := [182, 0, 119, 153, 0, 7, 4, 167, 0, 4, 3, 172]
abbrev dktX3_hears_3 : List UInt8 := dkwX3_hears_3 ++ []
def dkwX3_hears_2 : List UInt8 := [182, 0, 52, 180, 0, 116, 42, 180, 0, 43, 28, 184, 0, 100, 154, 0, 7, 4, 167, 0, 4, 3, 29]
abbrev dktX3_hears_2 : List UInt8 := dkwX3_hears_2 ++ dktX3_hears_3
def dkwX3_hears_1 : List UInt8 := [182, 0, 112, 153, 0, 54, 42, 180, 0, 25, 42, 180, 0, 15, 28, 46, 42, 180, 0, 9, 27, 46, 42, 27]
abbrev dktX3_hears_1 : List UInt8 := dkwX3_hears_1 ++ dktX3_hears_2
def dkwX3_hears_0 : List UInt8 := [42, 180, 0, 40, 28, 184, 0, 100, 154, 0, 71, 42, 27, 182, 0, 52, 42, 180, 0, 21, 27, 51]
abbrev dktX3_hears_0 : List UInt8 := dkwX3_hears_0 ++ dktX3_hears_1
theorem dksX3_hears_0 : cX3_hears.data.toList.drop 0 = dktX3_hears_0 := by decide +kernel
theorem dksX3_hears_1 : cX3_hears.data.toList.drop 22 = dktX3_hears_1 := dk_seg dksX3_hears_0 22 rfl rfl
theorem dksX3_hears_2 : cX3_hears.data.toList.drop 46 = dktX3_hears_2 := dk_seg dksX3_hears_1 24 rfl rfl
theorem dksX3_hears_3 : cX3_hears.data.toList.drop 69 = dktX3_hears_3 := dk_seg dksX3_hears_2 23 rfl rfl
theorem dX3_hears_0 : decode cX3_hears 0 = .ok (.aload_n 0, 1) := dk_42 (dk_at dksX3_hears_0 0 rfl rfl)
theorem dX3_hears_1 : decode cX3_hears 1 = .ok (.getfield 40, 3) := dk_180 0 40 (dk_at dksX3_hears_0 1 rfl rfl)
theorem dX3_hears_4 : decode cX3_hears 4 = .ok (.iload_n 2, 1) := dk_28 (dk_at dksX3_hears_0 4 rfl rfl)
theorem dX3_hears_5 : decode cX3_hears 5 = .ok (.invokestatic 100, 3) := dk_184 0 100 (dk_at dksX3_hears_0 5 rfl rfl)
theorem dX3_hears_8 : decode cX3_hears 8 = .ok (.ifCond .ne 71, 3) := dk_154 0 71 (dk_at dksX3_hears_0 8 rfl rfl)
theorem dX3_hears_11 : decode cX3_hears 11 = .ok (.aload_n 0, 1) := dk_42 (dk_at dksX3_hears_0 11 rfl rfl)
theorem dX3_hears_12 : decode cX3_hears 12 = .ok (.iload_n 1, 1) := dk_27 (dk_at dksX3_hears_0 12 rfl rfl)
theorem dX3_hears_13 : decode cX3_hears 13 = .ok (.invokevirtual 52, 3) := dk_182 0 52 (dk_at dksX3_hears_0 13 rfl rfl)
theorem dX3_hears_16 : decode cX3_hears 16 = .ok (.aload_n 0, 1) := dk_42 (dk_at dksX3_hears_0 16 rfl rfl)
theorem dX3_hears_17 : decode cX3_hears 17 = .ok (.getfield 21, 3) := dk_180 0 21 (dk_at dksX3_hears_0 17 rfl rfl)
theorem dX3_hears_20 : decode cX3_hears 20 = .ok (.iload_n 1, 1) := dk_27 (dk_at dksX3_hears_0 20 rfl rfl)
theorem dX3_hears_21 : decode cX3_hears 21 = .ok (.baload, 1) := dk_51 (dk_at dksX3_hears_0 21 rfl rfl)
theorem dX3_hears_22 : decode cX3_hears 22 = .ok (.invokevirtual 112, 3) := dk_182 0 112 (dk_at dksX3_hears_1 0 rfl rfl)
theorem dX3_hears_25 : decode cX3_hears 25 = .ok (.ifCond .eq 54, 3) := dk_153 0 54 (dk_at dksX3_hears_1 3 rfl rfl)
theorem dX3_hears_28 : decode cX3_hears 28 = .ok (.aload_n 0, 1) := dk_42 (dk_at dksX3_hears_1 6 rfl rfl)
theorem dX3_hears_29 : decode cX3_hears 29 = .ok (.getfield 25, 3) := dk_180 0 25 (dk_at dksX3_hears_1 7 rfl rfl)
theorem dX3_hears_32 : decode cX3_hears 32 = .ok (.aload_n 0, 1) := dk_42 (dk_at dksX3_hears_1 10 rfl rfl)
theorem dX3_hears_33 : decode cX3_hears 33 = .ok (.getfield 15, 3) := dk_180 0 15 (dk_at dksX3_hears_1 11 rfl rfl)
theorem dX3_hears_36 : decode cX3_hears 36 = .ok (.iload_n 2, 1) := dk_28 (dk_at dksX3_hears_1 14 rfl rfl)
theorem dX3_hears_37 : decode cX3_hears 37 = .ok (.iaload, 1) := dk_46 (dk_at dksX3_hears_1 15 rfl rfl)
theorem dX3_hears_38 : decode cX3_hears 38 = .ok (.aload_n 0, 1) := dk_42 (dk_at dksX3_hears_1 16 rfl rfl)
theorem dX3_hears_39 : decode cX3_hears 39 = .ok (.getfield 9, 3) := dk_180 0 9 (dk_at dksX3_hears_1 17 rfl rfl)
theorem dX3_hears_42 : decode cX3_hears 42 = .ok (.iload_n 1, 1) := dk_27 (dk_at dksX3_hears_1 20 rfl rfl)
theorem dX3_hears_43 : decode cX3_hears 43 = .ok (.iaload, 1) := dk_46 (dk_at dksX3_hears_1 21 rfl rfl)
theorem dX3_hears_44 : decode cX3_hears 44 = .ok (.aload_n 0, 1) := dk_42 (dk_at dksX3_hears_1 22 rfl rfl)
theorem dX3_hears_45 : decode cX3_hears 45 = .ok (.iload_n 1, 1) := dk_27 (dk_at dksX3_hears_1 23 rfl rfl)
theorem dX3_hears_46 : decode cX3_hears 46 = .ok (.invokevirtual 52, 3) := dk_182 0 52 (dk_at dksX3_hears_2 0 rfl rfl)
theorem dX3_hears_49 : decode cX3_hears 49 = .ok (.getfield 116, 3) := dk_180 0 116 (dk_at dksX3_hears_2 3 rfl rfl)
theorem dX3_hears_52 : decode cX3_hears 52 = .ok (.aload_n 0, 1) := dk_42 (dk_at dksX3_hears_2 6 rfl rfl)
theorem dX3_hears_53 : decode cX3_hears 53 = .ok (.getfield 43, 3) := dk_180 0 43 (dk_at dksX3_hears_2 7 rfl rfl)
theorem dX3_hears_56 : decode cX3_hears 56 = .ok (.iload_n 2, 1) := dk_28 (dk_at dksX3_hears_2 10 rfl rfl)
theorem dX3_hears_57 : decode cX3_hears 57 = .ok (.invokestatic 100, 3) := dk_184 0 100 (dk_at dksX3_hears_2 11 rfl rfl)
theorem dX3_hears_60 : decode cX3_hears 60 = .ok (.ifCond .ne 7, 3) := dk_154 0 7 (dk_at dksX3_hears_2 14 rfl rfl)
theorem dX3_hears_63 : decode cX3_hears 63 = .ok (.iconst 1, 1) := dk_4 (dk_at dksX3_hears_2 17 rfl rfl)
theorem dX3_hears_64 : decode cX3_hears 64 = .ok (.goto 4, 3) := dk_167 0 4 (dk_at dksX3_hears_2 18 rfl rfl)
theorem dX3_hears_67 : decode cX3_hears 67 = .ok (.iconst 0, 1) := dk_3 (dk_at dksX3_hears_2 21 rfl rfl)
theorem dX3_hears_68 : decode cX3_hears 68 = .ok (.iload_n 3, 1) := dk_29 (dk_at dksX3_hears_2 22 rfl rfl)
theorem dX3_hears_69 : decode cX3_hears 69 = .ok (.invokevirtual 119, 3) := dk_182 0 119 (dk_at dksX3_hears_3 0 rfl rfl)
theorem dX3_hears_72 : decode cX3_hears 72 = .ok (.ifCond .eq 7, 3) := dk_153 0 7 (dk_at dksX3_hears_3 3 rfl rfl)
theorem dX3_hears_75 : decode cX3_hears 75 = .ok (.iconst 1, 1) := dk_4 (dk_at dksX3_hears_3 6 rfl rfl)
theorem dX3_hears_76 : decode cX3_hears 76 = .ok (.goto 4, 3) := dk_167 0 4 (dk_at dksX3_hears_3 7 rfl rfl)
theorem dX3_hears_79 : decode cX3_hears 79 = .ok (.iconst 0, 1) := dk_3 (dk_at dksX3_hears_3 10 rfl rfl)
theorem dX3_hears_80 : decode cX3_hears 80 = .ok (.ireturn, 1) := dk_172 (dk_at dksX3_hears_3 11 rfl rfl)
def dkwX3_gets_5 : List UInt8 := [167, 255, 139, 177]
abbrev dktX3_gets_5 : List UInt8 := dkwX3_gets_5 ++ []
def dkwX3_gets_4 : List UInt8 := [180, 0, 46, 42, 28, 182, 0, 52, 180, 0, 146, 96, 181, 0, 46, 132, 2, 1, 167, 255, 155, 132, 1, 1]
abbrev dktX3_gets_4 : List UInt8 := dkwX3_gets_4 ++ dktX3_gets_5
def dkwX3_gets_3 : List UInt8 := [182, 0, 143, 4, 164, 0, 6, 167, 0, 32, 42, 180, 0, 18, 27, 92, 46, 4, 28, 120, 128, 79, 42, 89]
abbrev dktX3_gets_3 : List UInt8 := dkwX3_gets_3 ++ dktX3_gets_4
def dkwX3_gets_2 : List UInt8 := [28, 184, 0, 100, 154, 0, 58, 42, 180, 0, 25, 42, 180, 0, 15, 27, 46, 42, 180, 0, 9, 28, 46]
abbrev dktX3_gets_2 : List UInt8 := dkwX3_gets_2 ++ dktX3_gets_3
def dkwX3_gets_1 : List UInt8 := [27, 184, 0, 100, 154, 0, 82, 42, 180, 0, 37, 28, 184, 0, 100, 153, 0, 71, 42, 180, 0, 18, 27, 46]
abbrev dktX3_gets_1 : List UInt8 := dkwX3_gets_1 ++ dktX3_gets_2
def dkwX3_gets_0 : List UInt8 := [3, 60, 27, 42, 182, 0, 67, 162, 0, 115, 3, 61, 28, 42, 182, 0, 33, 162, 0, 99, 42, 180, 0, 40]
abbrev dktX3_gets_0 : List UInt8 := dkwX3_gets_0 ++ dktX3_gets_1
theorem dksX3_gets_0 : cX3_gets.data.toList.drop 0 = dktX3_gets_0 := by decide +kernel
theorem dksX3_gets_1 : cX3_gets.data.toList.drop 24 = dktX3_gets_1 := dk_seg dksX3_gets_0 24 rfl rfl
theorem dksX3_gets_2 : cX3_gets.data.toList.drop 48 = dktX3_gets_2 := dk_seg dksX3_gets_1 24 rfl rfl
theorem dksX3_gets_3 : cX3_gets.data.toList.drop 71 = dktX3_gets_3 := dk_seg dksX3_gets_2 23 rfl rfl
theorem dksX3_gets_4 : cX3_gets.data.toList.drop 95 = dktX3_gets_4 := dk_seg dksX3_gets_3 24 rfl rfl
theorem dksX3_gets_5 : cX3_gets.data.toList.drop 119 = dktX3_gets_5 := dk_seg dksX3_gets_4 24 rfl rfl
theorem dX3_gets_0 : decode cX3_gets 0 = .ok (.iconst 0, 1) := dk_3 (dk_at dksX3_gets_0 0 rfl rfl)
theorem dX3_gets_1 : decode cX3_gets 1 = .ok (.istore_n 1, 1) := dk_60 (dk_at dksX3_gets_0 1 rfl rfl)
theorem dX3_gets_2 : decode cX3_gets 2 = .ok (.iload_n 1, 1) := dk_27 (dk_at dksX3_gets_0 2 rfl rfl)
theorem dX3_gets_3 : decode cX3_gets 3 = .ok (.aload_n 0, 1) := dk_42 (dk_at dksX3_gets_0 3 rfl rfl)
theorem dX3_gets_4 : decode cX3_gets 4 = .ok (.invokevirtual 67, 3) := dk_182 0 67 (dk_at dksX3_gets_0 4 rfl rfl)
theorem dX3_gets_7 : decode cX3_gets 7 = .ok (.if_icmp .ge 115, 3) := dk_162 0 115 (dk_at dksX3_gets_0 7 rfl rfl)
theorem dX3_gets_10 : decode cX3_gets 10 = .ok (.iconst 0, 1) := dk_3 (dk_at dksX3_gets_0 10 rfl rfl)
theorem dX3_gets_11 : decode cX3_gets 11 = .ok (.istore_n 2, 1) := dk_61 (dk_at dksX3_gets_0 11 rfl rfl)
theorem dX3_gets_12 : decode cX3_gets 12 = .ok (.iload_n 2, 1) := dk_28 (dk_at dksX3_gets_0 12 rfl rfl)
theorem dX3_gets_13 : decode cX3_gets 13 = .ok (.aload_n 0, 1) := dk_42 (dk_at dksX3_gets_0 13 rfl rfl)
theorem dX3_gets_14 : decode cX3_gets 14 = .ok (.invokevirtual 33, 3) := dk_182 0 33 (dk_at dksX3_gets_0 14 rfl rfl)
theorem dX3_gets_17 : decode cX3_gets 17 = .ok (.if_icmp .ge 99, 3) := dk_162 0 99 (dk_at dksX3_gets_0 17 rfl rfl)
theorem dX3_gets_20 : decode cX3_gets 20 = .ok (.aload_n 0, 1) := dk_42 (dk_at dksX3_gets_0 20 rfl rfl)
theorem dX3_gets_21 : decode cX3_gets 21 = .ok (.getfield 40, 3) := dk_180 0 40 (dk_at dksX3_gets_0 21 rfl rfl)
theorem dX3_gets_24 : decode cX3_gets 24 = .ok (.iload_n 1, 1) := dk_27 (dk_at dksX3_gets_1 0 rfl rfl)
theorem dX3_gets_25 : decode cX3_gets 25 = .ok (.invokestatic 100, 3) := dk_184 0 100 (dk_at dksX3_gets_1 1 rfl rfl)
theorem dX3_gets_28 : decode cX3_gets 28 = .ok (.ifCond .ne 82, 3) := dk_154 0 82 (dk_at dksX3_gets_1 4 rfl rfl)
theorem dX3_gets_31 : decode cX3_gets 31 = .ok (.aload_n 0, 1) := dk_42 (dk_at dksX3_gets_1 7 rfl rfl)
theorem dX3_gets_32 : decode cX3_gets 32 = .ok (.getfield 37, 3) := dk_180 0 37 (dk_at dksX3_gets_1 8 rfl rfl)
theorem dX3_gets_35 : decode cX3_gets 35 = .ok (.iload_n 2, 1) := dk_28 (dk_at dksX3_gets_1 11 rfl rfl)
theorem dX3_gets_36 : decode cX3_gets 36 = .ok (.invokestatic 100, 3) := dk_184 0 100 (dk_at dksX3_gets_1 12 rfl rfl)
theorem dX3_gets_39 : decode cX3_gets 39 = .ok (.ifCond .eq 71, 3) := dk_153 0 71 (dk_at dksX3_gets_1 15 rfl rfl)
theorem dX3_gets_42 : decode cX3_gets 42 = .ok (.aload_n 0, 1) := dk_42 (dk_at dksX3_gets_1 18 rfl rfl)
theorem dX3_gets_43 : decode cX3_gets 43 = .ok (.getfield 18, 3) := dk_180 0 18 (dk_at dksX3_gets_1 19 rfl rfl)
theorem dX3_gets_46 : decode cX3_gets 46 = .ok (.iload_n 1, 1) := dk_27 (dk_at dksX3_gets_1 22 rfl rfl)
theorem dX3_gets_47 : decode cX3_gets 47 = .ok (.iaload, 1) := dk_46 (dk_at dksX3_gets_1 23 rfl rfl)
theorem dX3_gets_48 : decode cX3_gets 48 = .ok (.iload_n 2, 1) := dk_28 (dk_at dksX3_gets_2 0 rfl rfl)
theorem dX3_gets_49 : decode cX3_gets 49 = .ok (.invokestatic 100, 3) := dk_184 0 100 (dk_at dksX3_gets_2 1 rfl rfl)
theorem dX3_gets_52 : decode cX3_gets 52 = .ok (.ifCond .ne 58, 3) := dk_154 0 58 (dk_at dksX3_gets_2 4 rfl rfl)
theorem dX3_gets_55 : decode cX3_gets 55 = .ok (.aload_n 0, 1) := dk_42 (dk_at dksX3_gets_2 7 rfl rfl)
theorem dX3_gets_56 : decode cX3_gets 56 = .ok (.getfield 25, 3) := dk_180 0 25 (dk_at dksX3_gets_2 8 rfl rfl)
theorem dX3_gets_59 : decode cX3_gets 59 = .ok (.aload_n 0, 1) := dk_42 (dk_at dksX3_gets_2 11 rfl rfl)
theorem dX3_gets_60 : decode cX3_gets 60 = .ok (.getfield 15, 3) := dk_180 0 15 (dk_at dksX3_gets_2 12 rfl rfl)
theorem dX3_gets_63 : decode cX3_gets 63 = .ok (.iload_n 1, 1) := dk_27 (dk_at dksX3_gets_2 15 rfl rfl)
theorem dX3_gets_64 : decode cX3_gets 64 = .ok (.iaload, 1) := dk_46 (dk_at dksX3_gets_2 16 rfl rfl)
theorem dX3_gets_65 : decode cX3_gets 65 = .ok (.aload_n 0, 1) := dk_42 (dk_at dksX3_gets_2 17 rfl rfl)
theorem dX3_gets_66 : decode cX3_gets 66 = .ok (.getfield 9, 3) := dk_180 0 9 (dk_at dksX3_gets_2 18 rfl rfl)
theorem dX3_gets_69 : decode cX3_gets 69 = .ok (.iload_n 2, 1) := dk_28 (dk_at dksX3_gets_2 21 rfl rfl)
theorem dX3_gets_70 : decode cX3_gets 70 = .ok (.iaload, 1) := dk_46 (dk_at dksX3_gets_2 22 rfl rfl)
theorem dX3_gets_71 : decode cX3_gets 71 = .ok (.invokevirtual 143, 3) := dk_182 0 143 (dk_at dksX3_gets_3 0 rfl rfl)
theorem dX3_gets_74 : decode cX3_gets 74 = .ok (.iconst 1, 1) := dk_4 (dk_at dksX3_gets_3 3 rfl rfl)
theorem dX3_gets_75 : decode cX3_gets 75 = .ok (.if_icmp .le 6, 3) := dk_164 0 6 (dk_at dksX3_gets_3 4 rfl rfl)
theorem dX3_gets_78 : decode cX3_gets 78 = .ok (.goto 32, 3) := dk_167 0 32 (dk_at dksX3_gets_3 7 rfl rfl)
theorem dX3_gets_81 : decode cX3_gets 81 = .ok (.aload_n 0, 1) := dk_42 (dk_at dksX3_gets_3 10 rfl rfl)
theorem dX3_gets_82 : decode cX3_gets 82 = .ok (.getfield 18, 3) := dk_180 0 18 (dk_at dksX3_gets_3 11 rfl rfl)
theorem dX3_gets_85 : decode cX3_gets 85 = .ok (.iload_n 1, 1) := dk_27 (dk_at dksX3_gets_3 14 rfl rfl)
theorem dX3_gets_86 : decode cX3_gets 86 = .ok (.dup2, 1) := dk_92 (dk_at dksX3_gets_3 15 rfl rfl)
theorem dX3_gets_87 : decode cX3_gets 87 = .ok (.iaload, 1) := dk_46 (dk_at dksX3_gets_3 16 rfl rfl)
theorem dX3_gets_88 : decode cX3_gets 88 = .ok (.iconst 1, 1) := dk_4 (dk_at dksX3_gets_3 17 rfl rfl)
theorem dX3_gets_89 : decode cX3_gets 89 = .ok (.iload_n 2, 1) := dk_28 (dk_at dksX3_gets_3 18 rfl rfl)
theorem dX3_gets_90 : decode cX3_gets 90 = .ok (.ishl, 1) := dk_120 (dk_at dksX3_gets_3 19 rfl rfl)
theorem dX3_gets_91 : decode cX3_gets 91 = .ok (.ior, 1) := dk_128 (dk_at dksX3_gets_3 20 rfl rfl)
theorem dX3_gets_92 : decode cX3_gets 92 = .ok (.iastore, 1) := dk_79 (dk_at dksX3_gets_3 21 rfl rfl)
theorem dX3_gets_93 : decode cX3_gets 93 = .ok (.aload_n 0, 1) := dk_42 (dk_at dksX3_gets_3 22 rfl rfl)
theorem dX3_gets_94 : decode cX3_gets 94 = .ok (.dup, 1) := dk_89 (dk_at dksX3_gets_3 23 rfl rfl)
theorem dX3_gets_95 : decode cX3_gets 95 = .ok (.getfield 46, 3) := dk_180 0 46 (dk_at dksX3_gets_4 0 rfl rfl)
theorem dX3_gets_98 : decode cX3_gets 98 = .ok (.aload_n 0, 1) := dk_42 (dk_at dksX3_gets_4 3 rfl rfl)
theorem dX3_gets_99 : decode cX3_gets 99 = .ok (.iload_n 2, 1) := dk_28 (dk_at dksX3_gets_4 4 rfl rfl)
theorem dX3_gets_100 : decode cX3_gets 100 = .ok (.invokevirtual 52, 3) := dk_182 0 52 (dk_at dksX3_gets_4 5 rfl rfl)
theorem dX3_gets_103 : decode cX3_gets 103 = .ok (.getfield 146, 3) := dk_180 0 146 (dk_at dksX3_gets_4 8 rfl rfl)
theorem dX3_gets_106 : decode cX3_gets 106 = .ok (.iadd, 1) := dk_96 (dk_at dksX3_gets_4 11 rfl rfl)
theorem dX3_gets_107 : decode cX3_gets 107 = .ok (.putfield 46, 3) := dk_181 0 46 (dk_at dksX3_gets_4 12 rfl rfl)
theorem dX3_gets_110 : decode cX3_gets 110 = .ok (.iinc 2 1, 3) := dk_132 2 1 (dk_at dksX3_gets_4 15 rfl rfl)
theorem dX3_gets_113 : decode cX3_gets 113 = .ok (.goto (-101), 3) := dk_167 255 155 (dk_at dksX3_gets_4 18 rfl rfl)
theorem dX3_gets_116 : decode cX3_gets 116 = .ok (.iinc 1 1, 3) := dk_132 1 1 (dk_at dksX3_gets_4 21 rfl rfl)
theorem dX3_gets_119 : decode cX3_gets 119 = .ok (.goto (-117), 3) := dk_167 255 139 (dk_at dksX3_gets_5 0 rfl rfl)
theorem dX3_gets_122 : decode cX3_gets 122 = .ok (.return_, 1) := dk_177 (dk_at dksX3_gets_5 3 rfl rfl)
def dkwX4_init_3 : List UInt8 := [42, 4, 188, 10, 89, 3, 3, 79, 181, 0, 40, 42, 187, 0, 44, 89, 183, 0, 46, 181, 0, 47, 177]
abbrev dktX4_init_3 : List UInt8 := dkwX4_init_3 ++ []
def dkwX4_init_2 : List UInt8 := [183, 0, 11, 181, 0, 26, 42, 8, 181, 0, 29, 42, 8, 181, 0, 33, 42, 16, 36, 188, 4, 181, 0, 36]
abbrev dktX4_init_2 : List UInt8 := dkwX4_init_2 ++ dktX4_init_3
def dkwX4_init_1 : List UInt8 := [183, 0, 11, 181, 0, 20, 42, 187, 0, 9, 89, 5, 183, 0, 11, 181, 0, 23, 42, 187, 0, 9, 89, 5]
abbrev dktX4_init_1 : List UInt8 := dkwX4_init_1 ++ dktX4_init_2
def dkwX4_init_0 : List UInt8 := [42, 183, 0, 3, 42, 187, 0, 9, 89, 5, 183, 0, 11, 181, 0, 14, 42, 187, 0, 9, 89, 5]
abbrev dktX4_init_0 : List UInt8 := dkwX4_init_0 ++ dktX4_init_1
theorem dksX4_init_0 : cX4_init.data.toList.drop 0 = dktX4_init_0 := by decide +kernel
theorem dksX4_init_1 : cX4_init.data.toList.drop 22 = dktX4_init_1 := dk_seg dksX4_init_0 22 rfl rfl
theorem dksX4_init_2 : cX4_init.data.toList.drop 46 = dktX4_init_2 := dk_seg dksX4_init_1 24 rfl rfl
theorem dksX4_init_3 : cX4_init.data.toList.drop 70 = dktX4_init_3 := dk_seg dksX4_init_2 24 rfl rfl
theorem dX4_init_0 : decode cX4_init 0 = .ok (.aload_n 0, 1) := dk_42 (dk_at dksX4_init_0 0 rfl rfl)
theorem dX4_init_1 : decode cX4_init 1 = .ok (.invokespecial 3, 3) := dk_183 0 3 (dk_at dksX4_init_0 1 rfl rfl)
theorem dX4_init_4 : decode cX4_init 4 = .ok (.aload_n 0, 1) := dk_42 (dk_at dksX4_init_0 4 rfl rfl)
theorem dX4_init_5 : decode cX4_init 5 = .ok (.new 9, 3) := dk_187 0 9 (dk_at dksX4_init_0 5 rfl rfl)
theorem dX4_init_8 : decode cX4_init 8 = .ok (.dup, 1) := dk_89 (dk_at dksX4_init_0 8 rfl rfl)
theorem dX4_init_9 : decode cX4_init 9 = .ok (.iconst 2, 1) := dk_5 (dk_at dksX4_init_0 9 rfl rfl)
theorem dX4_init_10 : decode cX4_init 10 = .ok (.invokespecial 11, 3) := dk_183 0 11 (dk_at dksX4_init_0 10 rfl rfl)
theorem dX4_init_13 : decode cX4_init 13 = .ok (.putfield 14, 3) := dk_181 0 14 (dk_at dksX4_init_0 13 rfl rfl)
theorem dX4_init_16 : decode cX4_init 16 = .ok (.aload_n 0, 1) := dk_42 (dk_at dksX4_init_0 16 rfl rfl)
theorem dX4_init_17 : decode cX4_init 17 = .ok (.new 9, 3) := dk_187 0 9 (dk_at dksX4_init_0 17 rfl rfl)
theorem dX4_init_20 : decode cX4_init 20 = .ok (.dup, 1) := dk_89 (dk_at dksX4_init_0 20 rfl rfl)
theorem dX4_init_21 : decode cX4_init 21 = .ok (.iconst 2, 1) := dk_5 (dk_at dksX4_init_0 21 rfl rfl)
theorem dX4_init_22 : decode cX4_init 22 = .ok (.invokespecial 11, 3) := dk_183 0 11 (dk_at dksX4_init_1 0 rfl rfl)
theorem dX4_init_25 : decode cX4_init 25 = .ok (.putfield 20, 3) := dk_181 0 20 (dk_at dksX4_init_1 3 rfl rfl)
theorem dX4_init_28 : decode cX4_init 28 = .ok (.aload_n 0, 1) := dk_42 (dk_at dksX4_init_1 6 rfl rfl)
theorem dX4_init_29 : decode cX4_init 29 = .ok (.new 9, 3) := dk_187 0 9 (dk_at dksX4_init_1 7 rfl rfl)
theorem dX4_init_32 : decode cX4_init 32 = .ok (.dup, 1) := dk_89 (dk_at dksX4_init_1 10 rfl rfl)
theorem dX4_init_33 : decode cX4_init 33 = .ok (.iconst 2, 1) := dk_5 (dk_at dksX4_init_1 11 rfl rfl)
theorem dX4_init_34 : decode cX4_init 34 = .ok (.invokespecial 11, 3) := dk_183 0 11 (dk_at dksX4_init_1 12 rfl rfl)
theorem dX4_init_37 : decode cX4_init 37 = .ok (.putfield 23, 3) := dk_181 0 23 (dk_at dksX4_init_1 15 rfl rfl)
theorem dX4_init_40 : decode cX4_init 40 = .ok (.aload_n 0, 1) := dk_42 (dk_at dksX4_init_1 18 rfl rfl)
theorem dX4_init_41 : decode cX4_init 41 = .ok (.new 9, 3) := dk_187 0 9 (dk_at dksX4_init_1 19 rfl rfl)
theorem dX4_init_44 : decode cX4_init 44 = .ok (.dup, 1) := dk_89 (dk_at dksX4_init_1 22 rfl rfl)
theorem dX4_init_45 : decode cX4_init 45 = .ok (.iconst 2, 1) := dk_5 (dk_at dksX4_init_1 23 rfl rfl)
theorem dX4_init_46 : decode cX4_init 46 = .ok (.invokespecial 11, 3) := dk_183 0 11 (dk_at dksX4_init_2 0 rfl rfl)
theorem dX4_init_49 : decode cX4_init 49 = .ok (.putfield 26, 3) := dk_181 0 26 (dk_at dksX4_init_2 3 rfl rfl)
theorem dX4_init_52 : decode cX4_init 52 = .ok (.aload_n 0, 1) := dk_42 (dk_at dksX4_init_2 6 rfl rfl)
theorem dX4_init_53 : decode cX4_init 53 = .ok (.iconst 5, 1) := dk_8 (dk_at dksX4_init_2 7 rfl rfl)
theorem dX4_init_54 : decode cX4_init 54 = .ok (.putfield 29, 3) := dk_181 0 29 (dk_at dksX4_init_2 8 rfl rfl)
theorem dX4_init_57 : decode cX4_init 57 = .ok (.aload_n 0, 1) := dk_42 (dk_at dksX4_init_2 11 rfl rfl)
theorem dX4_init_58 : decode cX4_init 58 = .ok (.iconst 5, 1) := dk_8 (dk_at dksX4_init_2 12 rfl rfl)
theorem dX4_init_59 : decode cX4_init 59 = .ok (.putfield 33, 3) := dk_181 0 33 (dk_at dksX4_init_2 13 rfl rfl)
theorem dX4_init_62 : decode cX4_init 62 = .ok (.aload_n 0, 1) := dk_42 (dk_at dksX4_init_2 16 rfl rfl)
theorem dX4_init_63 : decode cX4_init 63 = .ok (.bipush 36, 2) := dk_16 36 (dk_at dksX4_init_2 17 rfl rfl)
theorem dX4_init_65 : decode cX4_init 65 = .ok (.newarray .boolean, 2) := dk_188_4 (dk_at dksX4_init_2 19 rfl rfl)
theorem dX4_init_67 : decode cX4_init 67 = .ok (.putfield 36, 3) := dk_181 0 36 (dk_at dksX4_init_2 21 rfl rfl)
theorem dX4_init_70 : decode cX4_init 70 = .ok (.aload_n 0, 1) := dk_42 (dk_at dksX4_init_3 0 rfl rfl)
theorem dX4_init_71 : decode cX4_init 71 = .ok (.iconst 1, 1) := dk_4 (dk_at dksX4_init_3 1 rfl rfl)
theorem dX4_init_72 : decode cX4_init 72 = .ok (.newarray .int, 2) := dk_188_10 (dk_at dksX4_init_3 2 rfl rfl)
theorem dX4_init_74 : decode cX4_init 74 = .ok (.dup, 1) := dk_89 (dk_at dksX4_init_3 4 rfl rfl)
theorem dX4_init_75 : decode cX4_init 75 = .ok (.iconst 0, 1) := dk_3 (dk_at dksX4_init_3 5 rfl rfl)
theorem dX4_init_76 : decode cX4_init 76 = .ok (.iconst 0, 1) := dk_3 (dk_at dksX4_init_3 6 rfl rfl)
theorem dX4_init_77 : decode cX4_init 77 = .ok (.iastore, 1) := dk_79 (dk_at dksX4_init_3 7 rfl rfl)
theorem dX4_init_78 : decode cX4_init 78 = .ok (.putfield 40, 3) := dk_181 0 40 (dk_at dksX4_init_3 8 rfl rfl)
theorem dX4_init_81 : decode cX4_init 81 = .ok (.aload_n 0, 1) := dk_42 (dk_at dksX4_init_3 11 rfl rfl)
theorem dX4_init_82 : decode cX4_init 82 = .ok (.new 44, 3) := dk_187 0 44 (dk_at dksX4_init_3 12 rfl rfl)
theorem dX4_init_85 : decode cX4_init 85 = .ok (.dup, 1) := dk_89 (dk_at dksX4_init_3 15 rfl rfl)
theorem dX4_init_86 : decode cX4_init 86 = .ok (.invokespecial 46, 3) := dk_183 0 46 (dk_at dksX4_init_3 16 rfl rfl)
theorem dX4_init_89 : decode cX4_init 89 = .ok (.putfield 47, 3) := dk_181 0 47 (dk_at dksX4_init_3 19 rfl rfl)
theorem dX4_init_92 : decode cX4_init 92 = .ok (.return_, 1) := dk_177 (dk_at dksX4_init_3 22 rfl rfl)
def dkwX4_cell_0 : List UInt8 := [27, 42, 182, 0, 70, 4, 100, 184, 0, 73, 172]
abbrev dktX4_cell_0 : List UInt8 := dkwX4_cell_0 ++ []
theorem dksX4_cell_0 : cX4_cell.data.toList.drop 0 = dktX4_cell_0 := by decide +kernel
theorem dX4_cell_0 : decode cX4_cell 0 = .ok (.iload_n 1, 1) := dk_27 (dk_at dksX4_cell_0 0 rfl rfl)
theorem dX4_cell_1 : decode cX4_cell 1 = .ok (.aload_n 0, 1) := dk_42 (dk_at dksX4_cell_0 1 rfl rfl)
theorem dX4_cell_2 : decode cX4_cell 2 = .ok (.invokevirtual 70, 3) := dk_182 0 70 (dk_at dksX4_cell_0 2 rfl rfl)
theorem dX4_cell_5 : decode cX4_cell 5 = .ok (.iconst 1, 1) := dk_4 (dk_at dksX4_cell_0 5 rfl rfl)
theorem dX4_cell_6 : decode cX4_cell 6 = .ok (.isub, 1) := dk_100 (dk_at dksX4_cell_0 6 rfl rfl)
theorem dX4_cell_7 : decode cX4_cell 7 = .ok (.invokestatic 73, 3) := dk_184 0 73 (dk_at dksX4_cell_0 7 rfl rfl)
theorem dX4_cell_10 : decode cX4_cell 10 = .ok (.ireturn, 1) := dk_172 (dk_at dksX4_cell_0 10 rfl rfl)
def dkwX4_cells_0 : List UInt8 := [42, 180, 0, 29, 42, 180, 0, 33, 104, 172]
abbrev dktX4_cells_0 : List UInt8 := dkwX4_cells_0 ++ []
theorem dksX4_cells_0 : cX4_cells.data.toList.drop 0 = dktX4_cells_0 := by decide +kernel
theorem dX4_cells_0 : decode cX4_cells 0 = .ok (.aload_n 0, 1) := dk_42 (dk_at dksX4_cells_0 0 rfl rfl)
theorem dX4_cells_1 : decode cX4_cells 1 = .ok (.getfield 29, 3) := dk_180 0 29 (dk_at dksX4_cells_0 1 rfl rfl)
theorem dX4_cells_4 : decode cX4_cells 4 = .ok (.aload_n 0, 1) := dk_42 (dk_at dksX4_cells_0 4 rfl rfl)
theorem dX4_cells_5 : decode cX4_cells 5 = .ok (.getfield 33, 3) := dk_180 0 33 (dk_at dksX4_cells_0 5 rfl rfl)
theorem dX4_cells_8 : decode cX4_cells 8 = .ok (.imul, 1) := dk_104 (dk_at dksX4_cells_0 8 rfl rfl)
theorem dX4_cells_9 : decode cX4_cells 9 = .ok (.ireturn, 1) := dk_172 (dk_at dksX4_cells_0 9 rfl rfl)
def dkwX4_find_2 : List UInt8 := [132, 3, 1, 167, 255, 208, 2, 172]
abbrev dktX4_find_2 : List UInt8 := dkwX4_find_2 ++ []
def dkwX4_find_1 : List UInt8 := [182, 0, 61, 31, 148, 154, 0, 18, 42, 180, 0, 20, 29, 182, 0, 55, 192, 0, 65, 182, 0, 67, 172]
abbrev dktX4_find_1 : List UInt8 := dkwX4_find_1 ++ dktX4_find_2
def dkwX4_find_0 : List UInt8 := [3, 62, 29, 42, 180, 0, 14, 182, 0, 51, 162, 0, 43, 42, 180, 0, 14, 29, 182, 0, 55, 192, 0, 59]
abbrev dktX4_find_0 : List UInt8 := dkwX4_find_0 ++ dktX4_find_1
theorem dksX4_find_0 : cX4_find.data.toList.drop 0 = dktX4_find_0 := by decide +kernel
theorem dksX4_find_1 : cX4_find.data.toList.drop 24 = dktX4_find_1 := dk_seg dksX4_find_0 24 rfl rfl
theorem dksX4_find_2 : cX4_find.data.toList.drop 47 = dktX4_find_2 := dk_seg dksX4_find_1 23 rfl rfl
theorem dX4_find_0 : decode cX4_find 0 = .ok (.iconst 0, 1) := dk_3 (dk_at dksX4_find_0 0 rfl rfl)
theorem dX4_find_1 : decode cX4_find 1 = .ok (.istore_n 3, 1) := dk_62 (dk_at dksX4_find_0 1 rfl rfl)
theorem dX4_find_2 : decode cX4_find 2 = .ok (.iload_n 3, 1) := dk_29 (dk_at dksX4_find_0 2 rfl rfl)
theorem dX4_find_3 : decode cX4_find 3 = .ok (.aload_n 0, 1) := dk_42 (dk_at dksX4_find_0 3 rfl rfl)
theorem dX4_find_4 : decode cX4_find 4 = .ok (.getfield 14, 3) := dk_180 0 14 (dk_at dksX4_find_0 4 rfl rfl)
theorem dX4_find_7 : decode cX4_find 7 = .ok (.invokevirtual 51, 3) := dk_182 0 51 (dk_at dksX4_find_0 7 rfl rfl)
theorem dX4_find_10 : decode cX4_find 10 = .ok (.if_icmp .ge 43, 3) := dk_162 0 43 (dk_at dksX4_find_0 10 rfl rfl)
theorem dX4_find_13 : decode cX4_find 13 = .ok (.aload_n 0, 1) := dk_42 (dk_at dksX4_find_0 13 rfl rfl)
theorem dX4_find_14 : decode cX4_find 14 = .ok (.getfield 14, 3) := dk_180 0 14 (dk_at dksX4_find_0 14 rfl rfl)
theorem dX4_find_17 : decode cX4_find 17 = .ok (.iload_n 3, 1) := dk_29 (dk_at dksX4_find_0 17 rfl rfl)
theorem dX4_find_18 : decode cX4_find 18 = .ok (.invokevirtual 55, 3) := dk_182 0 55 (dk_at dksX4_find_0 18 rfl rfl)
theorem dX4_find_21 : decode cX4_find 21 = .ok (.checkcast 59, 3) := dk_192 0 59 (dk_at dksX4_find_0 21 rfl rfl)
theorem dX4_find_24 : decode cX4_find 24 = .ok (.invokevirtual 61, 3) := dk_182 0 61 (dk_at dksX4_find_1 0 rfl rfl)
theorem dX4_find_27 : decode cX4_find 27 = .ok (.lload_n 1, 1) := dk_31 (dk_at dksX4_find_1 3 rfl rfl)
theorem dX4_find_28 : decode cX4_find 28 = .ok (.lcmp, 1) := dk_148 (dk_at dksX4_find_1 4 rfl rfl)
theorem dX4_find_29 : decode cX4_find 29 = .ok (.ifCond .ne 18, 3) := dk_154 0 18 (dk_at dksX4_find_1 5 rfl rfl)
theorem dX4_find_32 : decode cX4_find 32 = .ok (.aload_n 0, 1) := dk_42 (dk_at dksX4_find_1 8 rfl rfl)
theorem dX4_find_33 : decode cX4_find 33 = .ok (.getfield 20, 3) := dk_180 0 20 (dk_at dksX4_find_1 9 rfl rfl)
theorem dX4_find_36 : decode cX4_find 36 = .ok (.iload_n 3, 1) := dk_29 (dk_at dksX4_find_1 12 rfl rfl)
theorem dX4_find_37 : decode cX4_find 37 = .ok (.invokevirtual 55, 3) := dk_182 0 55 (dk_at dksX4_find_1 13 rfl rfl)
theorem dX4_find_40 : decode cX4_find 40 = .ok (.checkcast 65, 3) := dk_192 0 65 (dk_at dksX4_find_1 16 rfl rfl)
theorem dX4_find_43 : decode cX4_find 43 = .ok (.invokevirtual 67, 3) := dk_182 0 67 (dk_at dksX4_find_1 19 rfl rfl)
theorem dX4_find_46 : decode cX4_find 46 = .ok (.ireturn, 1) := dk_172 (dk_at dksX4_find_1 22 rfl rfl)
theorem dX4_find_47 : decode cX4_find 47 = .ok (.iinc 3 1, 3) := dk_132 3 1 (dk_at dksX4_find_2 0 rfl rfl)
theorem dX4_find_50 : decode cX4_find 50 = .ok (.goto (-48), 3) := dk_167 255 208 (dk_at dksX4_find_2 3 rfl rfl)
theorem dX4_find_53 : decode cX4_find 53 = .ok (.iconst (-1), 1) := dk_2 (dk_at dksX4_find_2 6 rfl rfl)
theorem dX4_find_54 : decode cX4_find 54 = .ok (.ireturn, 1) := dk_172 (dk_at dksX4_find_2 7 rfl rfl)
def dkwX4_isBush_0 : List UInt8 := [27, 42, 182, 0, 70, 162, 0, 16, 42, 180, 0, 36, 27, 51, 153, 0, 7, 4, 167, 0, 4, 3, 172]
abbrev dktX4_isBush_0 : List UInt8 := dkwX4_isBush_0 ++ []
theorem dksX4_isBush_0 : cX4_isBush.data.toList.drop 0 = dktX4_isBush_0 := by decide +kernel
theorem dX4_isBush_0 : decode cX4_isBush 0 = .ok (.iload_n 1, 1) := dk_27 (dk_at dksX4_isBush_0 0 rfl rfl)
theorem dX4_isBush_1 : decode cX4_isBush 1 = .ok (.aload_n 0, 1) := dk_42 (dk_at dksX4_isBush_0 1 rfl rfl)
theorem dX4_isBush_2 : decode cX4_isBush 2 = .ok (.invokevirtual 70, 3) := dk_182 0 70 (dk_at dksX4_isBush_0 2 rfl rfl)
theorem dX4_isBush_5 : decode cX4_isBush 5 = .ok (.if_icmp .ge 16, 3) := dk_162 0 16 (dk_at dksX4_isBush_0 5 rfl rfl)
theorem dX4_isBush_8 : decode cX4_isBush 8 = .ok (.aload_n 0, 1) := dk_42 (dk_at dksX4_isBush_0 8 rfl rfl)
theorem dX4_isBush_9 : decode cX4_isBush 9 = .ok (.getfield 36, 3) := dk_180 0 36 (dk_at dksX4_isBush_0 9 rfl rfl)
theorem dX4_isBush_12 : decode cX4_isBush 12 = .ok (.iload_n 1, 1) := dk_27 (dk_at dksX4_isBush_0 12 rfl rfl)
theorem dX4_isBush_13 : decode cX4_isBush 13 = .ok (.baload, 1) := dk_51 (dk_at dksX4_isBush_0 13 rfl rfl)
theorem dX4_isBush_14 : decode cX4_isBush 14 = .ok (.ifCond .eq 7, 3) := dk_153 0 7 (dk_at dksX4_isBush_0 14 rfl rfl)
theorem dX4_isBush_17 : decode cX4_isBush 17 = .ok (.iconst 1, 1) := dk_4 (dk_at dksX4_isBush_0 17 rfl rfl)
theorem dX4_isBush_18 : decode cX4_isBush 18 = .ok (.goto 4, 3) := dk_167 0 4 (dk_at dksX4_isBush_0 18 rfl rfl)
theorem dX4_isBush_21 : decode cX4_isBush 21 = .ok (.iconst 0, 1) := dk_3 (dk_at dksX4_isBush_0 21 rfl rfl)
theorem dX4_isBush_22 : decode cX4_isBush 22 = .ok (.ireturn, 1) := dk_172 (dk_at dksX4_isBush_0 22 rfl rfl)
def dkwX4_next_4 : List UInt8 := [167, 0, 4, 27, 172, 21, 4, 158, 0, 12, 27, 42, 180, 0, 29, 100, 167, 0, 4, 27, 172, 27, 172]
abbrev dktX4_next_4 : List UInt8 := dkwX4_next_4 ++ []
def dkwX4_next_3 : List UInt8 := [180, 0, 33, 162, 0, 12, 27, 42, 180, 0, 29, 96, 167, 0, 4, 27, 172, 29, 158, 0, 9, 27, 4, 100]
abbrev dktX4_next_3 : List UInt8 := dkwX4_next_3 ++ dktX4_next_4
def dkwX4_next_2 : List UInt8 := [29, 4, 96, 42, 180, 0, 29, 162, 0, 9, 27, 4, 96, 167, 0, 4, 27, 172, 21, 4, 4, 96, 42]
abbrev dktX4_next_2 : List UInt8 := dkwX4_next_2 ++ dktX4_next_3
def dkwX4_next_1 : List UInt8 := [170, 0, 0, 0, 0, 0, 0, 100, 0, 0, 0, 1, 0, 0, 0, 4, 0, 0, 0, 32, 0, 0, 0, 50, 0, 0, 0, 72, 0, 0, 0, 84]
abbrev dktX4_next_1 : List UInt8 := dkwX4_next_1 ++ dktX4_next_2
def dkwX4_next_0 : List UInt8 := [27, 42, 180, 0, 29, 112, 62, 27, 42, 180, 0, 29, 108, 54, 4, 28]
abbrev dktX4_next_0 : List UInt8 := dkwX4_next_0 ++ dktX4_next_1
theorem dksX4_next_0 : cX4_next.data.toList.drop 0 = dktX4_next_0 := by decide +kernel
theorem dksX4_next_1 : cX4_next.data.toList.drop 16 = dktX4_next_1 := dk_seg dksX4_next_0 16 rfl rfl
theorem dksX4_next_2 : cX4_next.data.toList.drop 48 = dktX4_next_2 := dk_seg dksX4_next_1 32 rfl rfl
theorem dksX4_next_3 : cX4_next.data.toList.drop 71 = dktX4_next_3 := dk_seg dksX4_next_2 23 rfl rfl
theorem dksX4_next_4 : cX4_next.data.toList.drop 95 = dktX4_next_4 := dk_seg dksX4_next_3 24 rfl rfl
theorem dX4_next_0 : decode cX4_next 0 = .ok (.iload_n 1, 1) := dk_27 (dk_at dksX4_next_0 0 rfl rfl)
theorem dX4_next_1 : decode cX4_next 1 = .ok (.aload_n 0, 1) := dk_42 (dk_at dksX4_next_0 1 rfl rfl)
theorem dX4_next_2 : decode cX4_next 2 = .ok (.getfield 29, 3) := dk_180 0 29 (dk_at dksX4_next_0 2 rfl rfl)
theorem dX4_next_5 : decode cX4_next 5 = .ok (.irem, 1) := dk_112 (dk_at dksX4_next_0 5 rfl rfl)
theorem dX4_next_6 : decode cX4_next 6 = .ok (.istore_n 3, 1) := dk_62 (dk_at dksX4_next_0 6 rfl rfl)
theorem dX4_next_7 : decode cX4_next 7 = .ok (.iload_n 1, 1) := dk_27 (dk_at dksX4_next_0 7 rfl rfl)
theorem dX4_next_8 : decode cX4_next 8 = .ok (.aload_n 0, 1) := dk_42 (dk_at dksX4_next_0 8 rfl rfl)
theorem dX4_next_9 : decode cX4_next 9 = .ok (.getfield 29, 3) := dk_180 0 29 (dk_at dksX4_next_0 9 rfl rfl)
theorem dX4_next_12 : decode cX4_next 12 = .ok (.idiv, 1) := dk_108 (dk_at dksX4_next_0 12 rfl rfl)
theorem dX4_next_13 : decode cX4_next 13 = .ok (.istore 4, 2) := dk_54 4 (dk_at dksX4_next_0 13 rfl rfl)
theorem dX4_next_15 : decode cX4_next 15 = .ok (.iload_n 2, 1) := dk_28 (dk_at dksX4_next_0 15 rfl rfl)
theorem dX4_next_16 : decode cX4_next 16 = .ok (.tableswitch 100 1 4 #[32, 50, 72, 84], 32) := by decide +kernel
theorem dX4_next_48 : decode cX4_next 48 = .ok (.iload_n 3, 1) := dk_29 (dk_at dksX4_next_2 0 rfl rfl)
theorem dX4_next_49 : decode cX4_next 49 = .ok (.iconst 1, 1) := dk_4 (dk_at dksX4_next_2 1 rfl rfl)
theorem dX4_next_50 : decode cX4_next 50 = .ok (.iadd, 1) := dk_96 (dk_at dksX4_next_2 2 rfl rfl)
theorem dX4_next_51 : decode cX4_next 51 = .ok (.aload_n 0, 1) := dk_42 (dk_at dksX4_next_2 3 rfl rfl)
theorem dX4_next_52 : decode cX4_next 52 = .ok (.getfield 29, 3) := dk_180 0 29 (dk_at dksX4_next_2 4 rfl rfl)
theorem dX4_next_55 : decode cX4_next 55 = .ok (.if_icmp .ge 9, 3) := dk_162 0 9 (dk_at dksX4_next_2 7 rfl rfl)
theorem dX4_next_58 : decode cX4_next 58 = .ok (.iload_n 1, 1) := dk_27 (dk_at dksX4_next_2 10 rfl rfl)
theorem dX4_next_59 : decode cX4_next 59 = .ok (.iconst 1, 1) := dk_4 (dk_at dksX4_next_2 11 rfl rfl)
theorem dX4_next_60 : decode cX4_next 60 = .ok (.iadd, 1) := dk_96 (dk_at dksX4_next_2 12 rfl rfl)
theorem dX4_next_61 : decode cX4_next 61 = .ok (.goto 4, 3) := dk_167 0 4 (dk_at dksX4_next_2 13 rfl rfl)
theorem dX4_next_64 : decode cX4_next 64 = .ok (.iload_n 1, 1) := dk_27 (dk_at dksX4_next_2 16 rfl rfl)
theorem dX4_next_65 : decode cX4_next 65 = .ok (.ireturn, 1) := dk_172 (dk_at dksX4_next_2 17 rfl rfl)
theorem dX4_next_66 : decode cX4_next 66 = .ok (.iload 4, 2) := dk_21 4 (dk_at dksX4_next_2 18 rfl rfl)
theorem dX4_next_68 : decode cX4_next 68 = .ok (.iconst 1, 1) := dk_4 (dk_at dksX4_next_2 20 rfl rfl)
theorem dX4_next_69 : decode cX4_next 69 = .ok (.iadd, 1) := dk_96 (dk_at dksX4_next_2 21 rfl rfl)
theorem dX4_next_70 : decode cX4_next 70 = .ok (.aload_n 0, 1) := dk_42 (dk_at dksX4_next_2 22 rfl rfl)
theorem dX4_next_71 : decode cX4_next 71 = .ok (.getfield 33, 3) := dk_180 0 33 (dk_at dksX4_next_3 0 rfl rfl)
theorem dX4_next_74 : decode cX4_next 74 = .ok (.if_icmp .ge 12, 3) := dk_162 0 12 (dk_at dksX4_next_3 3 rfl rfl)
theorem dX4_next_77 : decode cX4_next 77 = .ok (.iload_n 1, 1) := dk_27 (dk_at dksX4_next_3 6 rfl rfl)
theorem dX4_next_78 : decode cX4_next 78 = .ok (.aload_n 0, 1) := dk_42 (dk_at dksX4_next_3 7 rfl rfl)
theorem dX4_next_79 : decode cX4_next 79 = .ok (.getfield 29, 3) := dk_180 0 29 (dk_at dksX4_next_3 8 rfl rfl)
theorem dX4_next_82 : decode cX4_next 82 = .ok (.iadd, 1) := dk_96 (dk_at dksX4_next_3 11 rfl rfl)
theorem dX4_next_83 : decode cX4_next 83 = .ok (.goto 4, 3) := dk_167 0 4 (dk_at dksX4_next_3 12 rfl rfl)
theorem dX4_next_86 : decode cX4_next 86 = .ok (.iload_n 1, 1) := dk_27 (dk_at dksX4_next_3 15 rfl rfl)
theorem dX4_next_87 : decode cX4_next 87 = .ok (.ireturn, 1) := dk_172 (dk_at dksX4_next_3 16 rfl rfl)
theorem dX4_next_88 : decode cX4_next 88 = .ok (.iload_n 3, 1) := dk_29 (dk_at dksX4_next_3 17 rfl rfl)
theorem dX4_next_89 : decode cX4_next 89 = .ok (.ifCond .le 9, 3) := dk_158 0 9 (dk_at dksX4_next_3 18 rfl rfl)
theorem dX4_next_92 : decode cX4_next 92 = .ok (.iload_n 1, 1) := dk_27 (dk_at dksX4_next_3 21 rfl rfl)
theorem dX4_next_93 : decode cX4_next 93 = .ok (.iconst 1, 1) := dk_4 (dk_at dksX4_next_3 22 rfl rfl)
theorem dX4_next_94 : decode cX4_next 94 = .ok (.isub, 1) := dk_100 (dk_at dksX4_next_3 23 rfl rfl)
theorem dX4_next_95 : decode cX4_next 95 = .ok (.goto 4, 3) := dk_167 0 4 (dk_at dksX4_next_4 0 rfl rfl)
theorem dX4_next_98 : decode cX4_next 98 = .ok (.iload_n 1, 1) := dk_27 (dk_at dksX4_next_4 3 rfl rfl)
theorem dX4_next_99 : decode cX4_next 99 = .ok (.ireturn, 1) := dk_172 (dk_at dksX4_next_4 4 rfl rfl)
theorem dX4_next_100 : decode cX4_next 100 = .ok (.iload 4, 2) := dk_21 4 (dk_at dksX4_next_4 5 rfl rfl)
theorem dX4_next_102 : decode cX4_next 102 = .ok (.ifCond .le 12, 3) := dk_158 0 12 (dk_at dksX4_next_4 7 rfl rfl)
theorem dX4_next_105 : decode cX4_next 105 = .ok (.iload_n 1, 1) := dk_27 (dk_at dksX4_next_4 10 rfl rfl)
theorem dX4_next_106 : decode cX4_next 106 = .ok (.aload_n 0, 1) := dk_42 (dk_at dksX4_next_4 11 rfl rfl)
theorem dX4_next_107 : decode cX4_next 107 = .ok (.getfield 29, 3) := dk_180 0 29 (dk_at dksX4_next_4 12 rfl rfl)
theorem dX4_next_110 : decode cX4_next 110 = .ok (.isub, 1) := dk_100 (dk_at dksX4_next_4 15 rfl rfl)
theorem dX4_next_111 : decode cX4_next 111 = .ok (.goto 4, 3) := dk_167 0 4 (dk_at dksX4_next_4 16 rfl rfl)
theorem dX4_next_114 : decode cX4_next 114 = .ok (.iload_n 1, 1) := dk_27 (dk_at dksX4_next_4 19 rfl rfl)
theorem dX4_next_115 : decode cX4_next 115 = .ok (.ireturn, 1) := dk_172 (dk_at dksX4_next_4 20 rfl rfl)
theorem dX4_next_116 : decode cX4_next 116 = .ok (.iload_n 1, 1) := dk_27 (dk_at dksX4_next_4 21 rfl rfl)
theorem dX4_next_117 : decode cX4_next 117 = .ok (.ireturn, 1) := dk_172 (dk_at dksX4_next_4 22 rfl rfl)
def dkwX4_wind_0 : List UInt8 := [42, 180, 0, 40, 27, 42, 180, 0, 40, 190, 112, 46, 172]
abbrev dktX4_wind_0 : List UInt8 := dkwX4_wind_0 ++ []
theorem dksX4_wind_0 : cX4_wind.data.toList.drop 0 = dktX4_wind_0 := by decide +kernel
theorem dX4_wind_0 : decode cX4_wind 0 = .ok (.aload_n 0, 1) := dk_42 (dk_at dksX4_wind_0 0 rfl rfl)
theorem dX4_wind_1 : decode cX4_wind 1 = .ok (.getfield 40, 3) := dk_180 0 40 (dk_at dksX4_wind_0 1 rfl rfl)
theorem dX4_wind_4 : decode cX4_wind 4 = .ok (.iload_n 1, 1) := dk_27 (dk_at dksX4_wind_0 4 rfl rfl)
theorem dX4_wind_5 : decode cX4_wind 5 = .ok (.aload_n 0, 1) := dk_42 (dk_at dksX4_wind_0 5 rfl rfl)
theorem dX4_wind_6 : decode cX4_wind 6 = .ok (.getfield 40, 3) := dk_180 0 40 (dk_at dksX4_wind_0 6 rfl rfl)
theorem dX4_wind_9 : decode cX4_wind 9 = .ok (.arraylength, 1) := dk_190 (dk_at dksX4_wind_0 9 rfl rfl)
theorem dX4_wind_10 : decode cX4_wind 10 = .ok (.irem, 1) := dk_112 (dk_at dksX4_wind_0 10 rfl rfl)
theorem dX4_wind_11 : decode cX4_wind 11 = .ok (.iaload, 1) := dk_46 (dk_at dksX4_wind_0 11 rfl rfl)
theorem dX4_wind_12 : decode cX4_wind 12 = .ok (.ireturn, 1) := dk_172 (dk_at dksX4_wind_0 12 rfl rfl)
def dkwX4_isHeard_6 : List UInt8 := [180, 0, 94, 42, 180, 0, 47, 182, 0, 101, 153, 0, 7, 4, 167, 0, 4, 3, 172]
abbrev dktX4_isHeard_6 : List UInt8 := dkwX4_isHeard_6 ++ []
def dkwX4_isHeard_5 : List UInt8 := [3, 79, 42, 180, 0, 47, 180, 0, 98, 6, 21, 8, 79, 42, 180, 0, 47, 180, 0, 98, 7, 29, 79, 42]
abbrev dktX4_isHeard_5 : List UInt8 := dkwX4_isHeard_5 ++ dktX4_isHeard_6
def dkwX4_isHeard_4 : List UInt8 := [180, 0, 98, 4, 21, 7, 79, 42, 180, 0, 47, 180, 0, 98, 5, 21, 4, 153, 0, 7, 4, 167, 0, 4]
abbrev dktX4_isHeard_4 : List UInt8 := dkwX4_isHeard_4 ++ dktX4_isHeard_5
def dkwX4_isHeard_3 : List UInt8 := [162, 0, 7, 4, 167, 0, 4, 3, 172, 42, 180, 0, 47, 180, 0, 98, 3, 21, 6, 79, 42, 180, 0, 47]
abbrev dktX4_isHeard_3 : List UInt8 := dkwX4_isHeard_3 ++ dktX4_isHeard_4
def dkwX4_isHeard_2 : List UInt8 := [21, 6, 29, 4, 96, 21, 8, 96, 21, 7, 100, 21, 4, 153, 0, 7, 4, 167, 0, 4, 3, 100]
abbrev dktX4_isHeard_2 : List UInt8 := dkwX4_isHeard_2 ++ dktX4_isHeard_3
def dkwX4_isHeard_1 : List UInt8 := [27, 28, 21, 5, 182, 0, 90, 153, 0, 7, 4, 167, 0, 4, 3, 54, 8, 42, 180, 0, 94, 199, 0, 34]
abbrev dktX4_isHeard_1 : List UInt8 := dkwX4_isHeard_1 ++ dktX4_isHeard_2
def dkwX4_isHeard_0 : List UInt8 := [42, 27, 28, 182, 0, 83, 54, 6, 42, 27, 182, 0, 86, 153, 0, 7, 4, 167, 0, 4, 3, 54, 7, 42]
abbrev dktX4_isHeard_0 : List UInt8 := dkwX4_isHeard_0 ++ dktX4_isHeard_1
theorem dksX4_isHeard_0 : cX4_isHeard.data.toList.drop 0 = dktX4_isHeard_0 := by decide +kernel
theorem dksX4_isHeard_1 : cX4_isHeard.data.toList.drop 24 = dktX4_isHeard_1 := dk_seg dksX4_isHeard_0 24 rfl rfl
theorem dksX4_isHeard_2 : cX4_isHeard.data.toList.drop 48 = dktX4_isHeard_2 := dk_seg dksX4_isHeard_1 24 rfl rfl
theorem dksX4_isHeard_3 : cX4_isHeard.data.toList.drop 70 = dktX4_isHeard_3 := dk_seg dksX4_isHeard_2 22 rfl rfl
theorem dksX4_isHeard_4 : cX4_isHeard.data.toList.drop 94 = dktX4_isHeard_4 := dk_seg dksX4_isHeard_3 24 rfl rfl
theorem dksX4_isHeard_5 : cX4_isHeard.data.toList.drop 118 = dktX4_isHeard_5 := dk_seg dksX4_isHeard_4 24 rfl rfl
theorem dksX4_isHeard_6 : cX4_isHeard.data.toList.drop 142 = dktX4_isHeard_6 := dk_seg dksX4_isHeard_5 24 rfl rfl
theorem dX4_isHeard_0 : decode cX4_isHeard 0 = .ok (.aload_n 0, 1) := dk_42 (dk_at dksX4_isHeard_0 0 rfl rfl)
theorem dX4_isHeard_1 : decode cX4_isHeard 1 = .ok (.iload_n 1, 1) := dk_27 (dk_at dksX4_isHeard_0 1 rfl rfl)
theorem dX4_isHeard_2 : decode cX4_isHeard 2 = .ok (.iload_n 2, 1) := dk_28 (dk_at dksX4_isHeard_0 2 rfl rfl)
theorem dX4_isHeard_3 : decode cX4_isHeard 3 = .ok (.invokevirtual 83, 3) := dk_182 0 83 (dk_at dksX4_isHeard_0 3 rfl rfl)
theorem dX4_isHeard_6 : decode cX4_isHeard 6 = .ok (.istore 6, 2) := dk_54 6 (dk_at dksX4_isHeard_0 6 rfl rfl)
theorem dX4_isHeard_8 : decode cX4_isHeard 8 = .ok (.aload_n 0, 1) := dk_42 (dk_at dksX4_isHeard_0 8 rfl rfl)
theorem dX4_isHeard_9 : decode cX4_isHeard 9 = .ok (.iload_n 1, 1) := dk_27 (dk_at dksX4_isHeard_0 9 rfl rfl)
theorem dX4_isHeard_10 : decode cX4_isHeard 10 = .ok (.invokevirtual 86, 3) := dk_182 0 86 (dk_at dksX4_isHeard_0 10 rfl rfl)
theorem dX4_isHeard_13 : decode cX4_isHeard 13 = .ok (.ifCond .eq 7, 3) := dk_153 0 7 (dk_at dksX4_isHeard_0 13 rfl rfl)
theorem dX4_isHeard_16 : decode cX4_isHeard 16 = .ok (.iconst 1, 1) := dk_4 (dk_at dksX4_isHeard_0 16 rfl rfl)
theorem dX4_isHeard_17 : decode cX4_isHeard 17 = .ok (.goto 4, 3) := dk_167 0 4 (dk_at dksX4_isHeard_0 17 rfl rfl)
theorem dX4_isHeard_20 : decode cX4_isHeard 20 = .ok (.iconst 0, 1) := dk_3 (dk_at dksX4_isHeard_0 20 rfl rfl)
theorem dX4_isHeard_21 : decode cX4_isHeard 21 = .ok (.istore 7, 2) := dk_54 7 (dk_at dksX4_isHeard_0 21 rfl rfl)
theorem dX4_isHeard_23 : decode cX4_isHeard 23 = .ok (.aload_n 0, 1) := dk_42 (dk_at dksX4_isHeard_0 23 rfl rfl)
theorem dX4_isHeard_24 : decode cX4_isHeard 24 = .ok (.iload_n 1, 1) := dk_27 (dk_at dksX4_isHeard_1 0 rfl rfl)
theorem dX4_isHeard_25 : decode cX4_isHeard 25 = .ok (.iload_n 2, 1) := dk_28 (dk_at dksX4_isHeard_1 1 rfl rfl)
theorem dX4_isHeard_26 : decode cX4_isHeard 26 = .ok (.iload 5, 2) := dk_21 5 (dk_at dksX4_isHeard_1 2 rfl rfl)
theorem dX4_isHeard_28 : decode cX4_isHeard 28 = .ok (.invokevirtual 90, 3) := dk_182 0 90 (dk_at dksX4_isHeard_1 4 rfl rfl)
theorem dX4_isHeard_31 : decode cX4_isHeard 31 = .ok (.ifCond .eq 7, 3) := dk_153 0 7 (dk_at dksX4_isHeard_1 7 rfl rfl)
theorem dX4_isHeard_34 : decode cX4_isHeard 34 = .ok (.iconst 1, 1) := dk_4 (dk_at dksX4_isHeard_1 10 rfl rfl)
theorem dX4_isHeard_35 : decode cX4_isHeard 35 = .ok (.goto 4, 3) := dk_167 0 4 (dk_at dksX4_isHeard_1 11 rfl rfl)
theorem dX4_isHeard_38 : decode cX4_isHeard 38 = .ok (.iconst 0, 1) := dk_3 (dk_at dksX4_isHeard_1 14 rfl rfl)
theorem dX4_isHeard_39 : decode cX4_isHeard 39 = .ok (.istore 8, 2) := dk_54 8 (dk_at dksX4_isHeard_1 15 rfl rfl)
theorem dX4_isHeard_41 : decode cX4_isHeard 41 = .ok (.aload_n 0, 1) := dk_42 (dk_at dksX4_isHeard_1 17 rfl rfl)
theorem dX4_isHeard_42 : decode cX4_isHeard 42 = .ok (.getfield 94, 3) := dk_180 0 94 (dk_at dksX4_isHeard_1 18 rfl rfl)
theorem dX4_isHeard_45 : decode cX4_isHeard 45 = .ok (.ifnonnull 34, 3) := dk_199 0 34 (dk_at dksX4_isHeard_1 21 rfl rfl)
theorem dX4_isHeard_48 : decode cX4_isHeard 48 = .ok (.iload 6, 2) := dk_21 6 (dk_at dksX4_isHeard_2 0 rfl rfl)
theorem dX4_isHeard_50 : decode cX4_isHeard 50 = .ok (.iload_n 3, 1) := dk_29 (dk_at dksX4_isHeard_2 2 rfl rfl)
theorem dX4_isHeard_51 : decode cX4_isHeard 51 = .ok (.iconst 1, 1) := dk_4 (dk_at dksX4_isHeard_2 3 rfl rfl)
theorem dX4_isHeard_52 : decode cX4_isHeard 52 = .ok (.iadd, 1) := dk_96 (dk_at dksX4_isHeard_2 4 rfl rfl)
theorem dX4_isHeard_53 : decode cX4_isHeard 53 = .ok (.iload 8, 2) := dk_21 8 (dk_at dksX4_isHeard_2 5 rfl rfl)
theorem dX4_isHeard_55 : decode cX4_isHeard 55 = .ok (.iadd, 1) := dk_96 (dk_at dksX4_isHeard_2 7 rfl rfl)
theorem dX4_isHeard_56 : decode cX4_isHeard 56 = .ok (.iload 7, 2) := dk_21 7 (dk_at dksX4_isHeard_2 8 rfl rfl)
theorem dX4_isHeard_58 : decode cX4_isHeard 58 = .ok (.isub, 1) := dk_100 (dk_at dksX4_isHeard_2 10 rfl rfl)
theorem dX4_isHeard_59 : decode cX4_isHeard 59 = .ok (.iload 4, 2) := dk_21 4 (dk_at dksX4_isHeard_2 11 rfl rfl)
theorem dX4_isHeard_61 : decode cX4_isHeard 61 = .ok (.ifCond .eq 7, 3) := dk_153 0 7 (dk_at dksX4_isHeard_2 13 rfl rfl)
theorem dX4_isHeard_64 : decode cX4_isHeard 64 = .ok (.iconst 1, 1) := dk_4 (dk_at dksX4_isHeard_2 16 rfl rfl)
theorem dX4_isHeard_65 : decode cX4_isHeard 65 = .ok (.goto 4, 3) := dk_167 0 4 (dk_at dksX4_isHeard_2 17 rfl rfl)
theorem dX4_isHeard_68 : decode cX4_isHeard 68 = .ok (.iconst 0, 1) := dk_3 (dk_at dksX4_isHeard_2 20 rfl rfl)
theorem dX4_isHeard_69 : decode cX4_isHeard 69 = .ok (.isub, 1) := dk_100 (dk_at dksX4_isHeard_2 21 rfl rfl)
theorem dX4_isHeard_70 : decode cX4_isHeard 70 = .ok (.if_icmp .ge 7, 3) := dk_162 0 7 (dk_at dksX4_isHeard_3 0 rfl rfl)
theorem dX4_isHeard_73 : decode cX4_isHeard 73 = .ok (.iconst 1, 1) := dk_4 (dk_at dksX4_isHeard_3 3 rfl rfl)
theorem dX4_isHeard_74 : decode cX4_isHeard 74 = .ok (.goto 4, 3) := dk_167 0 4 (dk_at dksX4_isHeard_3 4 rfl rfl)
theorem dX4_isHeard_77 : decode cX4_isHeard 77 = .ok (.iconst 0, 1) := dk_3 (dk_at dksX4_isHeard_3 7 rfl rfl)
theorem dX4_isHeard_78 : decode cX4_isHeard 78 = .ok (.ireturn, 1) := dk_172 (dk_at dksX4_isHeard_3 8 rfl rfl)
theorem dX4_isHeard_79 : decode cX4_isHeard 79 = .ok (.aload_n 0, 1) := dk_42 (dk_at dksX4_isHeard_3 9 rfl rfl)
theorem dX4_isHeard_80 : decode cX4_isHeard 80 = .ok (.getfield 47, 3) := dk_180 0 47 (dk_at dksX4_isHeard_3 10 rfl rfl)
theorem dX4_isHeard_83 : decode cX4_isHeard 83 = .ok (.getfield 98, 3) := dk_180 0 98 (dk_at dksX4_isHeard_3 13 rfl rfl)
theorem dX4_isHeard_86 : decode cX4_isHeard 86 = .ok (.iconst 0, 1) := dk_3 (dk_at dksX4_isHeard_3 16 rfl rfl)
theorem dX4_isHeard_87 : decode cX4_isHeard 87 = .ok (.iload 6, 2) := dk_21 6 (dk_at dksX4_isHeard_3 17 rfl rfl)
theorem dX4_isHeard_89 : decode cX4_isHeard 89 = .ok (.iastore, 1) := dk_79 (dk_at dksX4_isHeard_3 19 rfl rfl)
theorem dX4_isHeard_90 : decode cX4_isHeard 90 = .ok (.aload_n 0, 1) := dk_42 (dk_at dksX4_isHeard_3 20 rfl rfl)
theorem dX4_isHeard_91 : decode cX4_isHeard 91 = .ok (.getfield 47, 3) := dk_180 0 47 (dk_at dksX4_isHeard_3 21 rfl rfl)
theorem dX4_isHeard_94 : decode cX4_isHeard 94 = .ok (.getfield 98, 3) := dk_180 0 98 (dk_at dksX4_isHeard_4 0 rfl rfl)
theorem dX4_isHeard_97 : decode cX4_isHeard 97 = .ok (.iconst 1, 1) := dk_4 (dk_at dksX4_isHeard_4 3 rfl rfl)
theorem dX4_isHeard_98 : decode cX4_isHeard 98 = .ok (.iload 7, 2) := dk_21 7 (dk_at dksX4_isHeard_4 4 rfl rfl)
theorem dX4_isHeard_100 : decode cX4_isHeard 100 = .ok (.iastore, 1) := dk_79 (dk_at dksX4_isHeard_4 6 rfl rfl)
theorem dX4_isHeard_101 : decode cX4_isHeard 101 = .ok (.aload_n 0, 1) := dk_42 (dk_at dksX4_isHeard_4 7 rfl rfl)
theorem dX4_isHeard_102 : decode cX4_isHeard 102 = .ok (.getfield 47, 3) := dk_180 0 47 (dk_at dksX4_isHeard_4 8 rfl rfl)
theorem dX4_isHeard_105 : decode cX4_isHeard 105 = .ok (.getfield 98, 3) := dk_180 0 98 (dk_at dksX4_isHeard_4 11 rfl rfl)
theorem dX4_isHeard_108 : decode cX4_isHeard 108 = .ok (.iconst 2, 1) := dk_5 (dk_at dksX4_isHeard_4 14 rfl rfl)
theorem dX4_isHeard_109 : decode cX4_isHeard 109 = .ok (.iload 4, 2) := dk_21 4 (dk_at dksX4_isHeard_4 15 rfl rfl)
theorem dX4_isHeard_111 : decode cX4_isHeard 111 = .ok (.ifCond .eq 7, 3) := dk_153 0 7 (dk_at dksX4_isHeard_4 17 rfl rfl)
theorem dX4_isHeard_114 : decode cX4_isHeard 114 = .ok (.iconst 1, 1) := dk_4 (dk_at dksX4_isHeard_4 20 rfl rfl)
theorem dX4_isHeard_115 : decode cX4_isHeard 115 = .ok (.goto 4, 3) := dk_167 0 4 (dk_at dksX4_isHeard_4 21 rfl rfl)
theorem dX4_isHeard_118 : decode cX4_isHeard 118 = .ok (.iconst 0, 1) := dk_3 (dk_at dksX4_isHeard_5 0 rfl rfl)
theorem dX4_isHeard_119 : decode cX4_isHeard 119 = .ok (.iastore, 1) := dk_79 (dk_at dksX4_isHeard_5 1 rfl rfl)
theorem dX4_isHeard_120 : decode cX4_isHeard 120 = .ok (.aload_n 0, 1) := dk_42 (dk_at dksX4_isHeard_5 2 rfl rfl)
theorem dX4_isHeard_121 : decode cX4_isHeard 121 = .ok (.getfield 47, 3) := dk_180 0 47 (dk_at dksX4_isHeard_5 3 rfl rfl)
theorem dX4_isHeard_124 : decode cX4_isHeard 124 = .ok (.getfield 98, 3) := dk_180 0 98 (dk_at dksX4_isHeard_5 6 rfl rfl)
theorem dX4_isHeard_127 : decode cX4_isHeard 127 = .ok (.iconst 3, 1) := dk_6 (dk_at dksX4_isHeard_5 9 rfl rfl)
theorem dX4_isHeard_128 : decode cX4_isHeard 128 = .ok (.iload 8, 2) := dk_21 8 (dk_at dksX4_isHeard_5 10 rfl rfl)
theorem dX4_isHeard_130 : decode cX4_isHeard 130 = .ok (.iastore, 1) := dk_79 (dk_at dksX4_isHeard_5 12 rfl rfl)
theorem dX4_isHeard_131 : decode cX4_isHeard 131 = .ok (.aload_n 0, 1) := dk_42 (dk_at dksX4_isHeard_5 13 rfl rfl)
theorem dX4_isHeard_132 : decode cX4_isHeard 132 = .ok (.getfield 47, 3) := dk_180 0 47 (dk_at dksX4_isHeard_5 14 rfl rfl)
theorem dX4_isHeard_135 : decode cX4_isHeard 135 = .ok (.getfield 98, 3) := dk_180 0 98 (dk_at dksX4_isHeard_5 17 rfl rfl)
theorem dX4_isHeard_138 : decode cX4_isHeard 138 = .ok (.iconst 4, 1) := dk_7 (dk_at dksX4_isHeard_5 20 rfl rfl)
theorem dX4_isHeard_139 : decode cX4_isHeard 139 = .ok (.iload_n 3, 1) := dk_29 (dk_at dksX4_isHeard_5 21 rfl rfl)
theorem dX4_isHeard_140 : decode cX4_isHeard 140 = .ok (.iastore, 1) := dk_79 (dk_at dksX4_isHeard_5 22 rfl rfl)
theorem dX4_isHeard_141 : decode cX4_isHeard 141 = .ok (.aload_n 0, 1) := dk_42 (dk_at dksX4_isHeard_5 23 rfl rfl)
theorem dX4_isHeard_142 : decode cX4_isHeard 142 = .ok (.getfield 94, 3) := dk_180 0 94 (dk_at dksX4_isHeard_6 0 rfl rfl)
theorem dX4_isHeard_145 : decode cX4_isHeard 145 = .ok (.aload_n 0, 1) := dk_42 (dk_at dksX4_isHeard_6 3 rfl rfl)
theorem dX4_isHeard_146 : decode cX4_isHeard 146 = .ok (.getfield 47, 3) := dk_180 0 47 (dk_at dksX4_isHeard_6 4 rfl rfl)
theorem dX4_isHeard_149 : decode cX4_isHeard 149 = .ok (.invokevirtual 101, 3) := dk_182 0 101 (dk_at dksX4_isHeard_6 7 rfl rfl)
theorem dX4_isHeard_152 : decode cX4_isHeard 152 = .ok (.ifCond .eq 7, 3) := dk_153 0 7 (dk_at dksX4_isHeard_6 10 rfl rfl)
theorem dX4_isHeard_155 : decode cX4_isHeard 155 = .ok (.iconst 1, 1) := dk_4 (dk_at dksX4_isHeard_6 13 rfl rfl)
theorem dX4_isHeard_156 : decode cX4_isHeard 156 = .ok (.goto 4, 3) := dk_167 0 4 (dk_at dksX4_isHeard_6 14 rfl rfl)
theorem dX4_isHeard_159 : decode cX4_isHeard 159 = .ok (.iconst 0, 1) := dk_3 (dk_at dksX4_isHeard_6 17 rfl rfl)
theorem dX4_isHeard_160 : decode cX4_isHeard 160 = .ok (.ireturn, 1) := dk_172 (dk_at dksX4_isHeard_6 18 rfl rfl)
def dkwX4_far_1 : List UInt8 := [180, 0, 29, 108, 100, 184, 0, 79, 96, 172]
abbrev dktX4_far_1 : List UInt8 := dkwX4_far_1 ++ []
def dkwX4_far_0 : List UInt8 := [27, 42, 180, 0, 29, 112, 28, 42, 180, 0, 29, 112, 100, 184, 0, 79, 27, 42, 180, 0, 29, 108, 28, 42]
abbrev dktX4_far_0 : List UInt8 := dkwX4_far_0 ++ dktX4_far_1
theorem dksX4_far_0 : cX4_far.data.toList.drop 0 = dktX4_far_0 := by decide +kernel
theorem dksX4_far_1 : cX4_far.data.toList.drop 24 = dktX4_far_1 := dk_seg dksX4_far_0 24 rfl rfl
theorem dX4_far_0 : decode cX4_far 0 = .ok (.iload_n 1, 1) := dk_27 (dk_at dksX4_far_0 0 rfl rfl)
theorem dX4_far_1 : decode cX4_far 1 = .ok (.aload_n 0, 1) := dk_42 (dk_at dksX4_far_0 1 rfl rfl)
theorem dX4_far_2 : decode cX4_far 2 = .ok (.getfield 29, 3) := dk_180 0 29 (dk_at dksX4_far_0 2 rfl rfl)
theorem dX4_far_5 : decode cX4_far 5 = .ok (.irem, 1) := dk_112 (dk_at dksX4_far_0 5 rfl rfl)
theorem dX4_far_6 : decode cX4_far 6 = .ok (.iload_n 2, 1) := dk_28 (dk_at dksX4_far_0 6 rfl rfl)
theorem dX4_far_7 : decode cX4_far 7 = .ok (.aload_n 0, 1) := dk_42 (dk_at dksX4_far_0 7 rfl rfl)
theorem dX4_far_8 : decode cX4_far 8 = .ok (.getfield 29, 3) := dk_180 0 29 (dk_at dksX4_far_0 8 rfl rfl)
theorem dX4_far_11 : decode cX4_far 11 = .ok (.irem, 1) := dk_112 (dk_at dksX4_far_0 11 rfl rfl)
theorem dX4_far_12 : decode cX4_far 12 = .ok (.isub, 1) := dk_100 (dk_at dksX4_far_0 12 rfl rfl)
theorem dX4_far_13 : decode cX4_far 13 = .ok (.invokestatic 79, 3) := dk_184 0 79 (dk_at dksX4_far_0 13 rfl rfl)
theorem dX4_far_16 : decode cX4_far 16 = .ok (.iload_n 1, 1) := dk_27 (dk_at dksX4_far_0 16 rfl rfl)
theorem dX4_far_17 : decode cX4_far 17 = .ok (.aload_n 0, 1) := dk_42 (dk_at dksX4_far_0 17 rfl rfl)
theorem dX4_far_18 : decode cX4_far 18 = .ok (.getfield 29, 3) := dk_180 0 29 (dk_at dksX4_far_0 18 rfl rfl)
theorem dX4_far_21 : decode cX4_far 21 = .ok (.idiv, 1) := dk_108 (dk_at dksX4_far_0 21 rfl rfl)
theorem dX4_far_22 : decode cX4_far 22 = .ok (.iload_n 2, 1) := dk_28 (dk_at dksX4_far_0 22 rfl rfl)
theorem dX4_far_23 : decode cX4_far 23 = .ok (.aload_n 0, 1) := dk_42 (dk_at dksX4_far_0 23 rfl rfl)
theorem dX4_far_24 : decode cX4_far 24 = .ok (.getfield 29, 3) := dk_180 0 29 (dk_at dksX4_far_1 0 rfl rfl)
theorem dX4_far_27 : decode cX4_far 27 = .ok (.idiv, 1) := dk_108 (dk_at dksX4_far_1 3 rfl rfl)
theorem dX4_far_28 : decode cX4_far 28 = .ok (.isub, 1) := dk_100 (dk_at dksX4_far_1 4 rfl rfl)
theorem dX4_far_29 : decode cX4_far 29 = .ok (.invokestatic 79, 3) := dk_184 0 79 (dk_at dksX4_far_1 5 rfl rfl)
theorem dX4_far_32 : decode cX4_far 32 = .ok (.iadd, 1) := dk_96 (dk_at dksX4_far_1 8 rfl rfl)
theorem dX4_far_33 : decode cX4_far 33 = .ok (.ireturn, 1) := dk_172 (dk_at dksX4_far_1 9 rfl rfl)
def dkwX4_isUpwind_5 : List UInt8 := [180, 0, 29, 108, 161, 0, 7, 4, 167, 0, 4, 3, 172, 3, 172]
abbrev dktX4_isUpwind_5 : List UInt8 := dkwX4_isUpwind_5 ++ []
def dkwX4_isUpwind_4 : List UInt8 := [112, 28, 42, 180, 0, 29, 112, 161, 0, 7, 4, 167, 0, 4, 3, 172, 27, 42, 180, 0, 29, 108, 28, 42]
abbrev dktX4_isUpwind_4 : List UInt8 := dkwX4_isUpwind_4 ++ dktX4_isUpwind_5
def dkwX4_isUpwind_3 : List UInt8 := [180, 0, 29, 108, 28, 42, 180, 0, 29, 108, 163, 0, 7, 4, 167, 0, 4, 3, 172, 27, 42, 180, 0, 29]
abbrev dktX4_isUpwind_3 : List UInt8 := dkwX4_isUpwind_3 ++ dktX4_isUpwind_4
def dkwX4_isUpwind_2 : List UInt8 := [27, 42, 180, 0, 29, 112, 28, 42, 180, 0, 29, 112, 163, 0, 7, 4, 167, 0, 4, 3, 172, 27, 42]
abbrev dktX4_isUpwind_2 : List UInt8 := dkwX4_isUpwind_2 ++ dktX4_isUpwind_3
def dkwX4_isUpwind_1 : List UInt8 := [170, 0, 0, 0, 0, 0, 115, 0, 0, 0, 1, 0, 0, 0, 4, 0, 0, 0, 31, 0, 0, 0, 52, 0, 0, 0, 73, 0, 0, 0, 94]
abbrev dktX4_isUpwind_1 : List UInt8 := dkwX4_isUpwind_1 ++ dktX4_isUpwind_2
def dkwX4_isUpwind_0 : List UInt8 := [29]
abbrev dktX4_isUpwind_0 : List UInt8 := dkwX4_isUpwind_0 ++ dktX4_isUpwind_1
theorem dksX4_isUpwind_0 : cX4_isUpwind.data.toList.drop 0 = dktX4_isUpwind_0 := by decide +kernel
theorem dksX4_isUpwind_1 : cX4_isUpwind.data.toList.drop 1 = dktX4_isUpwind_1 := dk_seg dksX4_isUpwind_0 1 rfl rfl
theorem dksX4_isUpwind_2 : cX4_isUpwind.data.toList.drop 32 = dktX4_isUpwind_2 := dk_seg dksX4_isUpwind_1 31 rfl rfl
theorem dksX4_isUpwind_3 : cX4_isUpwind.data.toList.drop 55 = dktX4_isUpwind_3 := dk_seg dksX4_isUpwind_2 23 rfl rfl
theorem dksX4_isUpwind_4 : cX4_isUpwind.data.toList.drop 79 = dktX4_isUpwind_4 := dk_seg dksX4_isUpwind_3 24 rfl rfl
theorem dksX4_isUpwind_5 : cX4_isUpwind.data.toList.drop 103 = dktX4_isUpwind_5 := dk_seg dksX4_isUpwind_4 24 rfl rfl
theorem dX4_isUpwind_0 : decode cX4_isUpwind 0 = .ok (.iload_n 3, 1) := dk_29 (dk_at dksX4_isUpwind_0 0 rfl rfl)
theorem dX4_isUpwind_1 : decode cX4_isUpwind 1 = .ok (.tableswitch 115 1 4 #[31, 52, 73, 94], 31) := by decide +kernel
theorem dX4_isUpwind_32 : decode cX4_isUpwind 32 = .ok (.iload_n 1, 1) := dk_27 (dk_at dksX4_isUpwind_2 0 rfl rfl)
theorem dX4_isUpwind_33 : decode cX4_isUpwind 33 = .ok (.aload_n 0, 1) := dk_42 (dk_at dksX4_isUpwind_2 1 rfl rfl)
theorem dX4_isUpwind_34 : decode cX4_isUpwind 34 = .ok (.getfield 29, 3) := dk_180 0 29 (dk_at dksX4_isUpwind_2 2 rfl rfl)
theorem dX4_isUpwind_37 : decode cX4_isUpwind 37 = .ok (.irem, 1) := dk_112 (dk_at dksX4_isUpwind_2 5 rfl rfl)
theorem dX4_isUpwind_38 : decode cX4_isUpwind 38 = .ok (.iload_n 2, 1) := dk_28 (dk_at dksX4_isUpwind_2 6 rfl rfl)
theorem dX4_isUpwind_39 : decode cX4_isUpwind 39 = .ok (.aload_n 0, 1) := dk_42 (dk_at dksX4_isUpwind_2 7 rfl rfl)
theorem dX4_isUpwind_40 : decode cX4_isUpwind 40 = .ok (.getfield 29, 3) := dk_180 0 29 (dk_at dksX4_isUpwind_2 8 rfl rfl)
theorem dX4_isUpwind_43 : decode cX4_isUpwind 43 = .ok (.irem, 1) := dk_112 (dk_at dksX4_isUpwind_2 11 rfl rfl)
theorem dX4_isUpwind_44 : decode cX4_isUpwind 44 = .ok (.if_icmp .gt 7, 3) := dk_163 0 7 (dk_at dksX4_isUpwind_2 12 rfl rfl)
theorem dX4_isUpwind_47 : decode cX4_isUpwind 47 = .ok (.iconst 1, 1) := dk_4 (dk_at dksX4_isUpwind_2 15 rfl rfl)
theorem dX4_isUpwind_48 : decode cX4_isUpwind 48 = .ok (.goto 4, 3) := dk_167 0 4 (dk_at dksX4_isUpwind_2 16 rfl rfl)
theorem dX4_isUpwind_51 : decode cX4_isUpwind 51 = .ok (.iconst 0, 1) := dk_3 (dk_at dksX4_isUpwind_2 19 rfl rfl)
theorem dX4_isUpwind_52 : decode cX4_isUpwind 52 = .ok (.ireturn, 1) := dk_172 (dk_at dksX4_isUpwind_2 20 rfl rfl)
theorem dX4_isUpwind_53 : decode cX4_isUpwind 53 = .ok (.iload_n 1, 1) := dk_27 (dk_at dksX4_isUpwind_2 21 rfl rfl)
theorem dX4_isUpwind_54 : decode cX4_isUpwind 54 = .ok (.aload_n 0, 1) := dk_42 (dk_at dksX4_isUpwind_2 22 rfl rfl)
theorem dX4_isUpwind_55 : decode cX4_isUpwind 55 = .ok (.getfield 29, 3) := dk_180 0 29 (dk_at dksX4_isUpwind_3 0 rfl rfl)
theorem dX4_isUpwind_58 : decode cX4_isUpwind 58 = .ok (.idiv, 1) := dk_108 (dk_at dksX4_isUpwind_3 3 rfl rfl)
theorem dX4_isUpwind_59 : decode cX4_isUpwind 59 = .ok (.iload_n 2, 1) := dk_28 (dk_at dksX4_isUpwind_3 4 rfl rfl)
theorem dX4_isUpwind_60 : decode cX4_isUpwind 60 = .ok (.aload_n 0, 1) := dk_42 (dk_at dksX4_isUpwind_3 5 rfl rfl)
theorem dX4_isUpwind_61 : decode cX4_isUpwind 61 = .ok (.getfield 29, 3) := dk_180 0 29 (dk_at dksX4_isUpwind_3 6 rfl rfl)
theorem dX4_isUpwind_64 : decode cX4_isUpwind 64 = .ok (.idiv, 1) := dk_108 (dk_at dksX4_isUpwind_3 9 rfl rfl)
theorem dX4_isUpwind_65 : decode cX4_isUpwind 65 = .ok (.if_icmp .gt 7, 3) := dk_163 0 7 (dk_at dksX4_isUpwind_3 10 rfl rfl)
theorem dX4_isUpwind_68 : decode cX4_isUpwind 68 = .ok (.iconst 1, 1) := dk_4 (dk_at dksX4_isUpwind_3 13 rfl rfl)
theorem dX4_isUpwind_69 : decode cX4_isUpwind 69 = .ok (.goto 4, 3) := dk_167 0 4 (dk_at dksX4_isUpwind_3 14 rfl rfl)
theorem dX4_isUpwind_72 : decode cX4_isUpwind 72 = .ok (.iconst 0, 1) := dk_3 (dk_at dksX4_isUpwind_3 17 rfl rfl)
theorem dX4_isUpwind_73 : decode cX4_isUpwind 73 = .ok (.ireturn, 1) := dk_172 (dk_at dksX4_isUpwind_3 18 rfl rfl)
theorem dX4_isUpwind_74 : decode cX4_isUpwind 74 = .ok (.iload_n 1, 1) := dk_27 (dk_at dksX4_isUpwind_3 19 rfl rfl)
theorem dX4_isUpwind_75 : decode cX4_isUpwind 75 = .ok (.aload_n 0, 1) := dk_42 (dk_at dksX4_isUpwind_3 20 rfl rfl)
theorem dX4_isUpwind_76 : decode cX4_isUpwind 76 = .ok (.getfield 29, 3) := dk_180 0 29 (dk_at dksX4_isUpwind_3 21 rfl rfl)
theorem dX4_isUpwind_79 : decode cX4_isUpwind 79 = .ok (.irem, 1) := dk_112 (dk_at dksX4_isUpwind_4 0 rfl rfl)
theorem dX4_isUpwind_80 : decode cX4_isUpwind 80 = .ok (.iload_n 2, 1) := dk_28 (dk_at dksX4_isUpwind_4 1 rfl rfl)
theorem dX4_isUpwind_81 : decode cX4_isUpwind 81 = .ok (.aload_n 0, 1) := dk_42 (dk_at dksX4_isUpwind_4 2 rfl rfl)
theorem dX4_isUpwind_82 : decode cX4_isUpwind 82 = .ok (.getfield 29, 3) := dk_180 0 29 (dk_at dksX4_isUpwind_4 3 rfl rfl)
theorem dX4_isUpwind_85 : decode cX4_isUpwind 85 = .ok (.irem, 1) := dk_112 (dk_at dksX4_isUpwind_4 6 rfl rfl)
theorem dX4_isUpwind_86 : decode cX4_isUpwind 86 = .ok (.if_icmp .lt 7, 3) := dk_161 0 7 (dk_at dksX4_isUpwind_4 7 rfl rfl)
theorem dX4_isUpwind_89 : decode cX4_isUpwind 89 = .ok (.iconst 1, 1) := dk_4 (dk_at dksX4_isUpwind_4 10 rfl rfl)
theorem dX4_isUpwind_90 : decode cX4_isUpwind 90 = .ok (.goto 4, 3) := dk_167 0 4 (dk_at dksX4_isUpwind_4 11 rfl rfl)
theorem dX4_isUpwind_93 : decode cX4_isUpwind 93 = .ok (.iconst 0, 1) := dk_3 (dk_at dksX4_isUpwind_4 14 rfl rfl)
theorem dX4_isUpwind_94 : decode cX4_isUpwind 94 = .ok (.ireturn, 1) := dk_172 (dk_at dksX4_isUpwind_4 15 rfl rfl)
theorem dX4_isUpwind_95 : decode cX4_isUpwind 95 = .ok (.iload_n 1, 1) := dk_27 (dk_at dksX4_isUpwind_4 16 rfl rfl)
theorem dX4_isUpwind_96 : decode cX4_isUpwind 96 = .ok (.aload_n 0, 1) := dk_42 (dk_at dksX4_isUpwind_4 17 rfl rfl)
theorem dX4_isUpwind_97 : decode cX4_isUpwind 97 = .ok (.getfield 29, 3) := dk_180 0 29 (dk_at dksX4_isUpwind_4 18 rfl rfl)
theorem dX4_isUpwind_100 : decode cX4_isUpwind 100 = .ok (.idiv, 1) := dk_108 (dk_at dksX4_isUpwind_4 21 rfl rfl)
theorem dX4_isUpwind_101 : decode cX4_isUpwind 101 = .ok (.iload_n 2, 1) := dk_28 (dk_at dksX4_isUpwind_4 22 rfl rfl)
theorem dX4_isUpwind_102 : decode cX4_isUpwind 102 = .ok (.aload_n 0, 1) := dk_42 (dk_at dksX4_isUpwind_4 23 rfl rfl)
theorem dX4_isUpwind_103 : decode cX4_isUpwind 103 = .ok (.getfield 29, 3) := dk_180 0 29 (dk_at dksX4_isUpwind_5 0 rfl rfl)
theorem dX4_isUpwind_106 : decode cX4_isUpwind 106 = .ok (.idiv, 1) := dk_108 (dk_at dksX4_isUpwind_5 3 rfl rfl)
theorem dX4_isUpwind_107 : decode cX4_isUpwind 107 = .ok (.if_icmp .lt 7, 3) := dk_161 0 7 (dk_at dksX4_isUpwind_5 4 rfl rfl)
theorem dX4_isUpwind_110 : decode cX4_isUpwind 110 = .ok (.iconst 1, 1) := dk_4 (dk_at dksX4_isUpwind_5 7 rfl rfl)
theorem dX4_isUpwind_111 : decode cX4_isUpwind 111 = .ok (.goto 4, 3) := dk_167 0 4 (dk_at dksX4_isUpwind_5 8 rfl rfl)
theorem dX4_isUpwind_114 : decode cX4_isUpwind 114 = .ok (.iconst 0, 1) := dk_3 (dk_at dksX4_isUpwind_5 11 rfl rfl)
theorem dX4_isUpwind_115 : decode cX4_isUpwind 115 = .ok (.ireturn, 1) := dk_172 (dk_at dksX4_isUpwind_5 12 rfl rfl)
theorem dX4_isUpwind_116 : decode cX4_isUpwind 116 = .ok (.iconst 0, 1) := dk_3 (dk_at dksX4_isUpwind_5 13 rfl rfl)
theorem dX4_isUpwind_117 : decode cX4_isUpwind 117 = .ok (.ireturn, 1) := dk_172 (dk_at dksX4_isUpwind_5 14 rfl rfl)
def dkwX4_bushMany_1 : List UInt8 := [132, 2, 1, 167, 255, 233, 27, 172]
abbrev dktX4_bushMany_1 : List UInt8 := dkwX4_bushMany_1 ++ []
def dkwX4_bushMany_0 : List UInt8 := [3, 60, 3, 61, 28, 42, 182, 0, 70, 162, 0, 21, 42, 180, 0, 36, 28, 51, 153, 0, 6, 132, 1, 1]
abbrev dktX4_bushMany_0 : List UInt8 := dkwX4_bushMany_0 ++ dktX4_bushMany_1
theorem dksX4_bushMany_0 : cX4_bushMany.data.toList.drop 0 = dktX4_bushMany_0 := by decide +kernel
theorem dksX4_bushMany_1 : cX4_bushMany.data.toList.drop 24 = dktX4_bushMany_1 := dk_seg dksX4_bushMany_0 24 rfl rfl
theorem dX4_bushMany_0 : decode cX4_bushMany 0 = .ok (.iconst 0, 1) := dk_3 (dk_at dksX4_bushMany_0 0 rfl rfl)
theorem dX4_bushMany_1 : decode cX4_bushMany 1 = .ok (.istore_n 1, 1) := dk_60 (dk_at dksX4_bushMany_0 1 rfl rfl)
theorem dX4_bushMany_2 : decode cX4_bushMany 2 = .ok (.iconst 0, 1) := dk_3 (dk_at dksX4_bushMany_0 2 rfl rfl)
theorem dX4_bushMany_3 : decode cX4_bushMany 3 = .ok (.istore_n 2, 1) := dk_61 (dk_at dksX4_bushMany_0 3 rfl rfl)
theorem dX4_bushMany_4 : decode cX4_bushMany 4 = .ok (.iload_n 2, 1) := dk_28 (dk_at dksX4_bushMany_0 4 rfl rfl)
theorem dX4_bushMany_5 : decode cX4_bushMany 5 = .ok (.aload_n 0, 1) := dk_42 (dk_at dksX4_bushMany_0 5 rfl rfl)
theorem dX4_bushMany_6 : decode cX4_bushMany 6 = .ok (.invokevirtual 70, 3) := dk_182 0 70 (dk_at dksX4_bushMany_0 6 rfl rfl)
theorem dX4_bushMany_9 : decode cX4_bushMany 9 = .ok (.if_icmp .ge 21, 3) := dk_162 0 21 (dk_at dksX4_bushMany_0 9 rfl rfl)
theorem dX4_bushMany_12 : decode cX4_bushMany 12 = .ok (.aload_n 0, 1) := dk_42 (dk_at dksX4_bushMany_0 12 rfl rfl)
theorem dX4_bushMany_13 : decode cX4_bushMany 13 = .ok (.getfield 36, 3) := dk_180 0 36 (dk_at dksX4_bushMany_0 13 rfl rfl)
theorem dX4_bushMany_16 : decode cX4_bushMany 16 = .ok (.iload_n 2, 1) := dk_28 (dk_at dksX4_bushMany_0 16 rfl rfl)
theorem dX4_bushMany_17 : decode cX4_bushMany 17 = .ok (.baload, 1) := dk_51 (dk_at dksX4_bushMany_0 17 rfl rfl)
theorem dX4_bushMany_18 : decode cX4_bushMany 18 = .ok (.ifCond .eq 6, 3) := dk_153 0 6 (dk_at dksX4_bushMany_0 18 rfl rfl)
theorem dX4_bushMany_21 : decode cX4_bushMany 21 = .ok (.iinc 1 1, 3) := dk_132 1 1 (dk_at dksX4_bushMany_0 21 rfl rfl)
theorem dX4_bushMany_24 : decode cX4_bushMany 24 = .ok (.iinc 2 1, 3) := dk_132 2 1 (dk_at dksX4_bushMany_1 0 rfl rfl)
theorem dX4_bushMany_27 : decode cX4_bushMany 27 = .ok (.goto (-23), 3) := dk_167 255 233 (dk_at dksX4_bushMany_1 3 rfl rfl)
theorem dX4_bushMany_30 : decode cX4_bushMany 30 = .ok (.iload_n 1, 1) := dk_27 (dk_at dksX4_bushMany_1 6 rfl rfl)
theorem dX4_bushMany_31 : decode cX4_bushMany 31 = .ok (.ireturn, 1) := dk_172 (dk_at dksX4_bushMany_1 7 rfl rfl)
def dkwX5_init_0 : List UInt8 := [42, 183, 0, 1, 42, 8, 188, 10, 181, 0, 9, 177]
abbrev dktX5_init_0 : List UInt8 := dkwX5_init_0 ++ []
theorem dksX5_init_0 : cX5_init.data.toList.drop 0 = dktX5_init_0 := by decide +kernel
theorem dX5_init_0 : decode cX5_init 0 = .ok (.aload_n 0, 1) := dk_42 (dk_at dksX5_init_0 0 rfl rfl)
theorem dX5_init_1 : decode cX5_init 1 = .ok (.invokespecial 1, 3) := dk_183 0 1 (dk_at dksX5_init_0 1 rfl rfl)
theorem dX5_init_4 : decode cX5_init 4 = .ok (.aload_n 0, 1) := dk_42 (dk_at dksX5_init_0 4 rfl rfl)
theorem dX5_init_5 : decode cX5_init 5 = .ok (.iconst 5, 1) := dk_8 (dk_at dksX5_init_0 5 rfl rfl)
theorem dX5_init_6 : decode cX5_init 6 = .ok (.newarray .int, 2) := dk_188_10 (dk_at dksX5_init_0 6 rfl rfl)
theorem dX5_init_8 : decode cX5_init 8 = .ok (.putfield 9, 3) := dk_181 0 9 (dk_at dksX5_init_0 8 rfl rfl)
theorem dX5_init_11 : decode cX5_init 11 = .ok (.return_, 1) := dk_177 (dk_at dksX5_init_0 11 rfl rfl)
def dkwX6_init_0 : List UInt8 := [42, 43, 181, 0, 3, 42, 183, 0, 9, 177]
abbrev dktX6_init_0 : List UInt8 := dkwX6_init_0 ++ []
theorem dksX6_init_0 : cX6_init.data.toList.drop 0 = dktX6_init_0 := by decide +kernel
theorem dX6_init_0 : decode cX6_init 0 = .ok (.aload_n 0, 1) := dk_42 (dk_at dksX6_init_0 0 rfl rfl)
theorem dX6_init_1 : decode cX6_init 1 = .ok (.aload_n 1, 1) := dk_43 (dk_at dksX6_init_0 1 rfl rfl)
theorem dX6_init_2 : decode cX6_init 2 = .ok (.putfield 3, 3) := dk_181 0 3 (dk_at dksX6_init_0 2 rfl rfl)
theorem dX6_init_5 : decode cX6_init 5 = .ok (.aload_n 0, 1) := dk_42 (dk_at dksX6_init_0 5 rfl rfl)
theorem dX6_init_6 : decode cX6_init 6 = .ok (.invokespecial 9, 3) := dk_183 0 9 (dk_at dksX6_init_0 6 rfl rfl)
theorem dX6_init_9 : decode cX6_init 9 = .ok (.return_, 1) := dk_177 (dk_at dksX6_init_0 9 rfl rfl)
def dkwX6_finds_7 : List UInt8 := [172, 42, 42, 180, 0, 78, 181, 0, 46, 132, 4, 1, 167, 255, 152, 2, 172]
abbrev dktX6_finds_7 : List UInt8 := dkwX6_finds_7 ++ []
def dkwX6_finds_6 : List UInt8 := [4, 160, 0, 7, 4, 167, 0, 4, 3, 29, 21, 5, 182, 0, 74, 42, 180, 0, 22, 153, 0, 6, 21, 4]
abbrev dktX6_finds_6 : List UInt8 := dkwX6_finds_6 ++ dktX6_finds_7
def dkwX6_finds_5 : List UInt8 := [180, 0, 3, 180, 0, 26, 180, 0, 67, 42, 180, 0, 19, 184, 0, 70, 154, 0, 5, 2, 172, 42, 21, 4]
abbrev dktX6_finds_5 : List UInt8 := dkwX6_finds_5 ++ dktX6_finds_6
def dkwX6_finds_4 : List UInt8 := [180, 0, 26, 180, 0, 54, 182, 0, 57, 54, 5, 42, 180, 0, 3, 180, 0, 26, 182, 0, 63, 87, 42]
abbrev dktX6_finds_4 : List UInt8 := dkwX6_finds_4 ++ dktX6_finds_5
def dkwX6_finds_3 : List UInt8 := [54, 4, 21, 4, 16, 30, 163, 0, 103, 42, 180, 0, 3, 180, 0, 26, 180, 0, 50, 42, 180, 0, 3]
abbrev dktX6_finds_3 : List UInt8 := dkwX6_finds_3 ++ dktX6_finds_4
def dkwX6_finds_2 : List UInt8 := [128, 181, 0, 39, 42, 10, 42, 180, 0, 3, 180, 0, 30, 180, 0, 42, 27, 46, 121, 181, 0, 46, 4]
abbrev dktX6_finds_2 : List UInt8 := dkwX6_finds_2 ++ dktX6_finds_3
def dkwX6_finds_1 : List UInt8 := [180, 0, 3, 180, 0, 30, 182, 0, 33, 87, 42, 180, 0, 3, 180, 0, 26, 89, 180, 0, 39, 4, 27, 120]
abbrev dktX6_finds_1 : List UInt8 := dkwX6_finds_1 ++ dktX6_finds_2
def dkwX6_finds_0 : List UInt8 := [42, 27, 181, 0, 15, 42, 28, 181, 0, 19, 42, 3, 181, 0, 22, 42, 180, 0, 3, 180, 0, 26, 42]
abbrev dktX6_finds_0 : List UInt8 := dkwX6_finds_0 ++ dktX6_finds_1
theorem dksX6_finds_0 : cX6_finds.data.toList.drop 0 = dktX6_finds_0 := by decide +kernel
theorem dksX6_finds_1 : cX6_finds.data.toList.drop 23 = dktX6_finds_1 := dk_seg dksX6_finds_0 23 rfl rfl
theorem dksX6_finds_2 : cX6_finds.data.toList.drop 47 = dktX6_finds_2 := dk_seg dksX6_finds_1 24 rfl rfl
theorem dksX6_finds_3 : cX6_finds.data.toList.drop 70 = dktX6_finds_3 := dk_seg dksX6_finds_2 23 rfl rfl
theorem dksX6_finds_4 : cX6_finds.data.toList.drop 93 = dktX6_finds_4 := dk_seg dksX6_finds_3 23 rfl rfl
theorem dksX6_finds_5 : cX6_finds.data.toList.drop 116 = dktX6_finds_5 := dk_seg dksX6_finds_4 23 rfl rfl
theorem dksX6_finds_6 : cX6_finds.data.toList.drop 140 = dktX6_finds_6 := dk_seg dksX6_finds_5 24 rfl rfl
theorem dksX6_finds_7 : cX6_finds.data.toList.drop 164 = dktX6_finds_7 := dk_seg dksX6_finds_6 24 rfl rfl
theorem dX6_finds_0 : decode cX6_finds 0 = .ok (.aload_n 0, 1) := dk_42 (dk_at dksX6_finds_0 0 rfl rfl)
theorem dX6_finds_1 : decode cX6_finds 1 = .ok (.iload_n 1, 1) := dk_27 (dk_at dksX6_finds_0 1 rfl rfl)
theorem dX6_finds_2 : decode cX6_finds 2 = .ok (.putfield 15, 3) := dk_181 0 15 (dk_at dksX6_finds_0 2 rfl rfl)
theorem dX6_finds_5 : decode cX6_finds 5 = .ok (.aload_n 0, 1) := dk_42 (dk_at dksX6_finds_0 5 rfl rfl)
theorem dX6_finds_6 : decode cX6_finds 6 = .ok (.iload_n 2, 1) := dk_28 (dk_at dksX6_finds_0 6 rfl rfl)
theorem dX6_finds_7 : decode cX6_finds 7 = .ok (.putfield 19, 3) := dk_181 0 19 (dk_at dksX6_finds_0 7 rfl rfl)
theorem dX6_finds_10 : decode cX6_finds 10 = .ok (.aload_n 0, 1) := dk_42 (dk_at dksX6_finds_0 10 rfl rfl)
theorem dX6_finds_11 : decode cX6_finds 11 = .ok (.iconst 0, 1) := dk_3 (dk_at dksX6_finds_0 11 rfl rfl)
theorem dX6_finds_12 : decode cX6_finds 12 = .ok (.putfield 22, 3) := dk_181 0 22 (dk_at dksX6_finds_0 12 rfl rfl)
theorem dX6_finds_15 : decode cX6_finds 15 = .ok (.aload_n 0, 1) := dk_42 (dk_at dksX6_finds_0 15 rfl rfl)
theorem dX6_finds_16 : decode cX6_finds 16 = .ok (.getfield 3, 3) := dk_180 0 3 (dk_at dksX6_finds_0 16 rfl rfl)
theorem dX6_finds_19 : decode cX6_finds 19 = .ok (.getfield 26, 3) := dk_180 0 26 (dk_at dksX6_finds_0 19 rfl rfl)
theorem dX6_finds_22 : decode cX6_finds 22 = .ok (.aload_n 0, 1) := dk_42 (dk_at dksX6_finds_0 22 rfl rfl)
theorem dX6_finds_23 : decode cX6_finds 23 = .ok (.getfield 3, 3) := dk_180 0 3 (dk_at dksX6_finds_1 0 rfl rfl)
theorem dX6_finds_26 : decode cX6_finds 26 = .ok (.getfield 30, 3) := dk_180 0 30 (dk_at dksX6_finds_1 3 rfl rfl)
theorem dX6_finds_29 : decode cX6_finds 29 = .ok (.invokevirtual 33, 3) := dk_182 0 33 (dk_at dksX6_finds_1 6 rfl rfl)
theorem dX6_finds_32 : decode cX6_finds 32 = .ok (.pop, 1) := dk_87 (dk_at dksX6_finds_1 9 rfl rfl)
theorem dX6_finds_33 : decode cX6_finds 33 = .ok (.aload_n 0, 1) := dk_42 (dk_at dksX6_finds_1 10 rfl rfl)
theorem dX6_finds_34 : decode cX6_finds 34 = .ok (.getfield 3, 3) := dk_180 0 3 (dk_at dksX6_finds_1 11 rfl rfl)
theorem dX6_finds_37 : decode cX6_finds 37 = .ok (.getfield 26, 3) := dk_180 0 26 (dk_at dksX6_finds_1 14 rfl rfl)
theorem dX6_finds_40 : decode cX6_finds 40 = .ok (.dup, 1) := dk_89 (dk_at dksX6_finds_1 17 rfl rfl)
theorem dX6_finds_41 : decode cX6_finds 41 = .ok (.getfield 39, 3) := dk_180 0 39 (dk_at dksX6_finds_1 18 rfl rfl)
theorem dX6_finds_44 : decode cX6_finds 44 = .ok (.iconst 1, 1) := dk_4 (dk_at dksX6_finds_1 21 rfl rfl)
theorem dX6_finds_45 : decode cX6_finds 45 = .ok (.iload_n 1, 1) := dk_27 (dk_at dksX6_finds_1 22 rfl rfl)
theorem dX6_finds_46 : decode cX6_finds 46 = .ok (.ishl, 1) := dk_120 (dk_at dksX6_finds_1 23 rfl rfl)
theorem dX6_finds_47 : decode cX6_finds 47 = .ok (.ior, 1) := dk_128 (dk_at dksX6_finds_2 0 rfl rfl)
theorem dX6_finds_48 : decode cX6_finds 48 = .ok (.putfield 39, 3) := dk_181 0 39 (dk_at dksX6_finds_2 1 rfl rfl)
theorem dX6_finds_51 : decode cX6_finds 51 = .ok (.aload_n 0, 1) := dk_42 (dk_at dksX6_finds_2 4 rfl rfl)
theorem dX6_finds_52 : decode cX6_finds 52 = .ok (.lconst 1, 1) := dk_10 (dk_at dksX6_finds_2 5 rfl rfl)
theorem dX6_finds_53 : decode cX6_finds 53 = .ok (.aload_n 0, 1) := dk_42 (dk_at dksX6_finds_2 6 rfl rfl)
theorem dX6_finds_54 : decode cX6_finds 54 = .ok (.getfield 3, 3) := dk_180 0 3 (dk_at dksX6_finds_2 7 rfl rfl)
theorem dX6_finds_57 : decode cX6_finds 57 = .ok (.getfield 30, 3) := dk_180 0 30 (dk_at dksX6_finds_2 10 rfl rfl)
theorem dX6_finds_60 : decode cX6_finds 60 = .ok (.getfield 42, 3) := dk_180 0 42 (dk_at dksX6_finds_2 13 rfl rfl)
theorem dX6_finds_63 : decode cX6_finds 63 = .ok (.iload_n 1, 1) := dk_27 (dk_at dksX6_finds_2 16 rfl rfl)
theorem dX6_finds_64 : decode cX6_finds 64 = .ok (.iaload, 1) := dk_46 (dk_at dksX6_finds_2 17 rfl rfl)
theorem dX6_finds_65 : decode cX6_finds 65 = .ok (.lshl, 1) := dk_121 (dk_at dksX6_finds_2 18 rfl rfl)
theorem dX6_finds_66 : decode cX6_finds 66 = .ok (.putfield 46, 3) := dk_181 0 46 (dk_at dksX6_finds_2 19 rfl rfl)
theorem dX6_finds_69 : decode cX6_finds 69 = .ok (.iconst 1, 1) := dk_4 (dk_at dksX6_finds_2 22 rfl rfl)
theorem dX6_finds_70 : decode cX6_finds 70 = .ok (.istore 4, 2) := dk_54 4 (dk_at dksX6_finds_3 0 rfl rfl)
theorem dX6_finds_72 : decode cX6_finds 72 = .ok (.iload 4, 2) := dk_21 4 (dk_at dksX6_finds_3 2 rfl rfl)
theorem dX6_finds_74 : decode cX6_finds 74 = .ok (.bipush 30, 2) := dk_16 30 (dk_at dksX6_finds_3 4 rfl rfl)
theorem dX6_finds_76 : decode cX6_finds 76 = .ok (.if_icmp .gt 103, 3) := dk_163 0 103 (dk_at dksX6_finds_3 6 rfl rfl)
theorem dX6_finds_79 : decode cX6_finds 79 = .ok (.aload_n 0, 1) := dk_42 (dk_at dksX6_finds_3 9 rfl rfl)
theorem dX6_finds_80 : decode cX6_finds 80 = .ok (.getfield 3, 3) := dk_180 0 3 (dk_at dksX6_finds_3 10 rfl rfl)
theorem dX6_finds_83 : decode cX6_finds 83 = .ok (.getfield 26, 3) := dk_180 0 26 (dk_at dksX6_finds_3 13 rfl rfl)
theorem dX6_finds_86 : decode cX6_finds 86 = .ok (.getfield 50, 3) := dk_180 0 50 (dk_at dksX6_finds_3 16 rfl rfl)
theorem dX6_finds_89 : decode cX6_finds 89 = .ok (.aload_n 0, 1) := dk_42 (dk_at dksX6_finds_3 19 rfl rfl)
theorem dX6_finds_90 : decode cX6_finds 90 = .ok (.getfield 3, 3) := dk_180 0 3 (dk_at dksX6_finds_3 20 rfl rfl)
theorem dX6_finds_93 : decode cX6_finds 93 = .ok (.getfield 26, 3) := dk_180 0 26 (dk_at dksX6_finds_4 0 rfl rfl)
theorem dX6_finds_96 : decode cX6_finds 96 = .ok (.getfield 54, 3) := dk_180 0 54 (dk_at dksX6_finds_4 3 rfl rfl)
theorem dX6_finds_99 : decode cX6_finds 99 = .ok (.invokevirtual 57, 3) := dk_182 0 57 (dk_at dksX6_finds_4 6 rfl rfl)
theorem dX6_finds_102 : decode cX6_finds 102 = .ok (.istore 5, 2) := dk_54 5 (dk_at dksX6_finds_4 9 rfl rfl)
theorem dX6_finds_104 : decode cX6_finds 104 = .ok (.aload_n 0, 1) := dk_42 (dk_at dksX6_finds_4 11 rfl rfl)
theorem dX6_finds_105 : decode cX6_finds 105 = .ok (.getfield 3, 3) := dk_180 0 3 (dk_at dksX6_finds_4 12 rfl rfl)
theorem dX6_finds_108 : decode cX6_finds 108 = .ok (.getfield 26, 3) := dk_180 0 26 (dk_at dksX6_finds_4 15 rfl rfl)
theorem dX6_finds_111 : decode cX6_finds 111 = .ok (.invokevirtual 63, 3) := dk_182 0 63 (dk_at dksX6_finds_4 18 rfl rfl)
theorem dX6_finds_114 : decode cX6_finds 114 = .ok (.pop, 1) := dk_87 (dk_at dksX6_finds_4 21 rfl rfl)
theorem dX6_finds_115 : decode cX6_finds 115 = .ok (.aload_n 0, 1) := dk_42 (dk_at dksX6_finds_4 22 rfl rfl)
theorem dX6_finds_116 : decode cX6_finds 116 = .ok (.getfield 3, 3) := dk_180 0 3 (dk_at dksX6_finds_5 0 rfl rfl)
theorem dX6_finds_119 : decode cX6_finds 119 = .ok (.getfield 26, 3) := dk_180 0 26 (dk_at dksX6_finds_5 3 rfl rfl)
theorem dX6_finds_122 : decode cX6_finds 122 = .ok (.getfield 67, 3) := dk_180 0 67 (dk_at dksX6_finds_5 6 rfl rfl)
theorem dX6_finds_125 : decode cX6_finds 125 = .ok (.aload_n 0, 1) := dk_42 (dk_at dksX6_finds_5 9 rfl rfl)
theorem dX6_finds_126 : decode cX6_finds 126 = .ok (.getfield 19, 3) := dk_180 0 19 (dk_at dksX6_finds_5 10 rfl rfl)
theorem dX6_finds_129 : decode cX6_finds 129 = .ok (.invokestatic 70, 3) := dk_184 0 70 (dk_at dksX6_finds_5 13 rfl rfl)
theorem dX6_finds_132 : decode cX6_finds 132 = .ok (.ifCond .ne 5, 3) := dk_154 0 5 (dk_at dksX6_finds_5 16 rfl rfl)
theorem dX6_finds_135 : decode cX6_finds 135 = .ok (.iconst (-1), 1) := dk_2 (dk_at dksX6_finds_5 19 rfl rfl)
theorem dX6_finds_136 : decode cX6_finds 136 = .ok (.ireturn, 1) := dk_172 (dk_at dksX6_finds_5 20 rfl rfl)
theorem dX6_finds_137 : decode cX6_finds 137 = .ok (.aload_n 0, 1) := dk_42 (dk_at dksX6_finds_5 21 rfl rfl)
theorem dX6_finds_138 : decode cX6_finds 138 = .ok (.iload 4, 2) := dk_21 4 (dk_at dksX6_finds_5 22 rfl rfl)
theorem dX6_finds_140 : decode cX6_finds 140 = .ok (.iconst 1, 1) := dk_4 (dk_at dksX6_finds_6 0 rfl rfl)
theorem dX6_finds_141 : decode cX6_finds 141 = .ok (.if_icmp .ne 7, 3) := dk_160 0 7 (dk_at dksX6_finds_6 1 rfl rfl)
theorem dX6_finds_144 : decode cX6_finds 144 = .ok (.iconst 1, 1) := dk_4 (dk_at dksX6_finds_6 4 rfl rfl)
theorem dX6_finds_145 : decode cX6_finds 145 = .ok (.goto 4, 3) := dk_167 0 4 (dk_at dksX6_finds_6 5 rfl rfl)
theorem dX6_finds_148 : decode cX6_finds 148 = .ok (.iconst 0, 1) := dk_3 (dk_at dksX6_finds_6 8 rfl rfl)
theorem dX6_finds_149 : decode cX6_finds 149 = .ok (.iload_n 3, 1) := dk_29 (dk_at dksX6_finds_6 9 rfl rfl)
theorem dX6_finds_150 : decode cX6_finds 150 = .ok (.iload 5, 2) := dk_21 5 (dk_at dksX6_finds_6 10 rfl rfl)
theorem dX6_finds_152 : decode cX6_finds 152 = .ok (.invokevirtual 74, 3) := dk_182 0 74 (dk_at dksX6_finds_6 12 rfl rfl)
theorem dX6_finds_155 : decode cX6_finds 155 = .ok (.aload_n 0, 1) := dk_42 (dk_at dksX6_finds_6 15 rfl rfl)
theorem dX6_finds_156 : decode cX6_finds 156 = .ok (.getfield 22, 3) := dk_180 0 22 (dk_at dksX6_finds_6 16 rfl rfl)
theorem dX6_finds_159 : decode cX6_finds 159 = .ok (.ifCond .eq 6, 3) := dk_153 0 6 (dk_at dksX6_finds_6 19 rfl rfl)
theorem dX6_finds_162 : decode cX6_finds 162 = .ok (.iload 4, 2) := dk_21 4 (dk_at dksX6_finds_6 22 rfl rfl)
theorem dX6_finds_164 : decode cX6_finds 164 = .ok (.ireturn, 1) := dk_172 (dk_at dksX6_finds_7 0 rfl rfl)
theorem dX6_finds_165 : decode cX6_finds 165 = .ok (.aload_n 0, 1) := dk_42 (dk_at dksX6_finds_7 1 rfl rfl)
theorem dX6_finds_166 : decode cX6_finds 166 = .ok (.aload_n 0, 1) := dk_42 (dk_at dksX6_finds_7 2 rfl rfl)
theorem dX6_finds_167 : decode cX6_finds 167 = .ok (.getfield 78, 3) := dk_180 0 78 (dk_at dksX6_finds_7 3 rfl rfl)
theorem dX6_finds_170 : decode cX6_finds 170 = .ok (.putfield 46, 3) := dk_181 0 46 (dk_at dksX6_finds_7 6 rfl rfl)
theorem dX6_finds_173 : decode cX6_finds 173 = .ok (.iinc 4 1, 3) := dk_132 4 1 (dk_at dksX6_finds_7 9 rfl rfl)
theorem dX6_finds_176 : decode cX6_finds 176 = .ok (.goto (-104), 3) := dk_167 255 152 (dk_at dksX6_finds_7 12 rfl rfl)
theorem dX6_finds_179 : decode cX6_finds 179 = .ok (.iconst (-1), 1) := dk_2 (dk_at dksX6_finds_7 15 rfl rfl)
theorem dX6_finds_180 : decode cX6_finds 180 = .ok (.ireturn, 1) := dk_172 (dk_at dksX6_finds_7 16 rfl rfl)
def dkwX6_goes_7 : List UInt8 := [167, 0, 4, 3, 29, 182, 0, 91, 132, 6, 1, 167, 255, 162, 132, 5, 1, 167, 255, 118, 177]
abbrev dktX6_goes_7 : List UInt8 := dkwX6_goes_7 ++ []
def dkwX6_goes_6 : List UInt8 := [159, 0, 9, 21, 6, 28, 160, 0, 25, 42, 21, 7, 21, 6, 154, 0, 12, 21, 4, 154, 0, 7, 4]
abbrev dktX6_goes_6 : List UInt8 := dkwX6_goes_6 ++ dktX6_goes_7
def dkwX6_goes_5 : List UInt8 := [21, 5, 159, 0, 7, 4, 167, 0, 4, 3, 54, 8, 21, 8, 153, 0, 40, 27, 153, 0, 14, 28, 2]
abbrev dktX6_goes_5 : List UInt8 := dkwX6_goes_5 ++ dktX6_goes_6
def dkwX6_goes_4 : List UInt8 := [180, 0, 50, 21, 5, 21, 6, 182, 0, 87, 54, 7, 21, 6, 153, 0, 15, 21, 4, 154, 0, 14, 21, 7]
abbrev dktX6_goes_4 : List UInt8 := dkwX6_goes_4 ++ dktX6_goes_5
def dkwX6_goes_3 : List UInt8 := [154, 0, 6, 167, 0, 103, 3, 54, 6, 21, 6, 7, 163, 0, 94, 42, 180, 0, 3, 180, 0, 26]
abbrev dktX6_goes_3 : List UInt8 := dkwX6_goes_3 ++ dktX6_goes_4
def dkwX6_goes_2 : List UInt8 := [180, 0, 26, 180, 0, 50, 182, 0, 84, 162, 0, 126, 42, 180, 0, 46, 21, 5, 123, 10, 127, 9, 148]
abbrev dktX6_goes_2 : List UInt8 := dkwX6_goes_2 ++ dktX6_goes_3
def dkwX6_goes_1 : List UInt8 := [184, 0, 70, 153, 0, 7, 4, 167, 0, 4, 3, 54, 4, 3, 54, 5, 21, 5, 42, 180, 0, 3]
abbrev dktX6_goes_1 : List UInt8 := dkwX6_goes_1 ++ dktX6_goes_2
def dkwX6_goes_0 : List UInt8 := [42, 9, 181, 0, 78, 27, 153, 0, 27, 42, 180, 0, 3, 180, 0, 30, 180, 0, 81, 42, 180, 0, 15]
abbrev dktX6_goes_0 : List UInt8 := dkwX6_goes_0 ++ dktX6_goes_1
theorem dksX6_goes_0 : cX6_goes.data.toList.drop 0 = dktX6_goes_0 := by decide +kernel
theorem dksX6_goes_1 : cX6_goes.data.toList.drop 23 = dktX6_goes_1 := dk_seg dksX6_goes_0 23 rfl rfl
theorem dksX6_goes_2 : cX6_goes.data.toList.drop 45 = dktX6_goes_2 := dk_seg dksX6_goes_1 22 rfl rfl
theorem dksX6_goes_3 : cX6_goes.data.toList.drop 68 = dktX6_goes_3 := dk_seg dksX6_goes_2 23 rfl rfl
theorem dksX6_goes_4 : cX6_goes.data.toList.drop 90 = dktX6_goes_4 := dk_seg dksX6_goes_3 22 rfl rfl
theorem dksX6_goes_5 : cX6_goes.data.toList.drop 114 = dktX6_goes_5 := dk_seg dksX6_goes_4 24 rfl rfl
theorem dksX6_goes_6 : cX6_goes.data.toList.drop 137 = dktX6_goes_6 := dk_seg dksX6_goes_5 23 rfl rfl
theorem dksX6_goes_7 : cX6_goes.data.toList.drop 160 = dktX6_goes_7 := dk_seg dksX6_goes_6 23 rfl rfl
theorem dX6_goes_0 : decode cX6_goes 0 = .ok (.aload_n 0, 1) := dk_42 (dk_at dksX6_goes_0 0 rfl rfl)
theorem dX6_goes_1 : decode cX6_goes 1 = .ok (.lconst 0, 1) := dk_9 (dk_at dksX6_goes_0 1 rfl rfl)
theorem dX6_goes_2 : decode cX6_goes 2 = .ok (.putfield 78, 3) := dk_181 0 78 (dk_at dksX6_goes_0 2 rfl rfl)
theorem dX6_goes_5 : decode cX6_goes 5 = .ok (.iload_n 1, 1) := dk_27 (dk_at dksX6_goes_0 5 rfl rfl)
theorem dX6_goes_6 : decode cX6_goes 6 = .ok (.ifCond .eq 27, 3) := dk_153 0 27 (dk_at dksX6_goes_0 6 rfl rfl)
theorem dX6_goes_9 : decode cX6_goes 9 = .ok (.aload_n 0, 1) := dk_42 (dk_at dksX6_goes_0 9 rfl rfl)
theorem dX6_goes_10 : decode cX6_goes 10 = .ok (.getfield 3, 3) := dk_180 0 3 (dk_at dksX6_goes_0 10 rfl rfl)
theorem dX6_goes_13 : decode cX6_goes 13 = .ok (.getfield 30, 3) := dk_180 0 30 (dk_at dksX6_goes_0 13 rfl rfl)
theorem dX6_goes_16 : decode cX6_goes 16 = .ok (.getfield 81, 3) := dk_180 0 81 (dk_at dksX6_goes_0 16 rfl rfl)
theorem dX6_goes_19 : decode cX6_goes 19 = .ok (.aload_n 0, 1) := dk_42 (dk_at dksX6_goes_0 19 rfl rfl)
theorem dX6_goes_20 : decode cX6_goes 20 = .ok (.getfield 15, 3) := dk_180 0 15 (dk_at dksX6_goes_0 20 rfl rfl)
theorem dX6_goes_23 : decode cX6_goes 23 = .ok (.invokestatic 70, 3) := dk_184 0 70 (dk_at dksX6_goes_1 0 rfl rfl)
theorem dX6_goes_26 : decode cX6_goes 26 = .ok (.ifCond .eq 7, 3) := dk_153 0 7 (dk_at dksX6_goes_1 3 rfl rfl)
theorem dX6_goes_29 : decode cX6_goes 29 = .ok (.iconst 1, 1) := dk_4 (dk_at dksX6_goes_1 6 rfl rfl)
theorem dX6_goes_30 : decode cX6_goes 30 = .ok (.goto 4, 3) := dk_167 0 4 (dk_at dksX6_goes_1 7 rfl rfl)
theorem dX6_goes_33 : decode cX6_goes 33 = .ok (.iconst 0, 1) := dk_3 (dk_at dksX6_goes_1 10 rfl rfl)
theorem dX6_goes_34 : decode cX6_goes 34 = .ok (.istore 4, 2) := dk_54 4 (dk_at dksX6_goes_1 11 rfl rfl)
theorem dX6_goes_36 : decode cX6_goes 36 = .ok (.iconst 0, 1) := dk_3 (dk_at dksX6_goes_1 13 rfl rfl)
theorem dX6_goes_37 : decode cX6_goes 37 = .ok (.istore 5, 2) := dk_54 5 (dk_at dksX6_goes_1 14 rfl rfl)
theorem dX6_goes_39 : decode cX6_goes 39 = .ok (.iload 5, 2) := dk_21 5 (dk_at dksX6_goes_1 16 rfl rfl)
theorem dX6_goes_41 : decode cX6_goes 41 = .ok (.aload_n 0, 1) := dk_42 (dk_at dksX6_goes_1 18 rfl rfl)
theorem dX6_goes_42 : decode cX6_goes 42 = .ok (.getfield 3, 3) := dk_180 0 3 (dk_at dksX6_goes_1 19 rfl rfl)
theorem dX6_goes_45 : decode cX6_goes 45 = .ok (.getfield 26, 3) := dk_180 0 26 (dk_at dksX6_goes_2 0 rfl rfl)
theorem dX6_goes_48 : decode cX6_goes 48 = .ok (.getfield 50, 3) := dk_180 0 50 (dk_at dksX6_goes_2 3 rfl rfl)
theorem dX6_goes_51 : decode cX6_goes 51 = .ok (.invokevirtual 84, 3) := dk_182 0 84 (dk_at dksX6_goes_2 6 rfl rfl)
theorem dX6_goes_54 : decode cX6_goes 54 = .ok (.if_icmp .ge 126, 3) := dk_162 0 126 (dk_at dksX6_goes_2 9 rfl rfl)
theorem dX6_goes_57 : decode cX6_goes 57 = .ok (.aload_n 0, 1) := dk_42 (dk_at dksX6_goes_2 12 rfl rfl)
theorem dX6_goes_58 : decode cX6_goes 58 = .ok (.getfield 46, 3) := dk_180 0 46 (dk_at dksX6_goes_2 13 rfl rfl)
theorem dX6_goes_61 : decode cX6_goes 61 = .ok (.iload 5, 2) := dk_21 5 (dk_at dksX6_goes_2 16 rfl rfl)
theorem dX6_goes_63 : decode cX6_goes 63 = .ok (.lshr, 1) := dk_123 (dk_at dksX6_goes_2 18 rfl rfl)
theorem dX6_goes_64 : decode cX6_goes 64 = .ok (.lconst 1, 1) := dk_10 (dk_at dksX6_goes_2 19 rfl rfl)
theorem dX6_goes_65 : decode cX6_goes 65 = .ok (.land, 1) := dk_127 (dk_at dksX6_goes_2 20 rfl rfl)
theorem dX6_goes_66 : decode cX6_goes 66 = .ok (.lconst 0, 1) := dk_9 (dk_at dksX6_goes_2 21 rfl rfl)
theorem dX6_goes_67 : decode cX6_goes 67 = .ok (.lcmp, 1) := dk_148 (dk_at dksX6_goes_2 22 rfl rfl)
theorem dX6_goes_68 : decode cX6_goes 68 = .ok (.ifCond .ne 6, 3) := dk_154 0 6 (dk_at dksX6_goes_3 0 rfl rfl)
theorem dX6_goes_71 : decode cX6_goes 71 = .ok (.goto 103, 3) := dk_167 0 103 (dk_at dksX6_goes_3 3 rfl rfl)
theorem dX6_goes_74 : decode cX6_goes 74 = .ok (.iconst 0, 1) := dk_3 (dk_at dksX6_goes_3 6 rfl rfl)
theorem dX6_goes_75 : decode cX6_goes 75 = .ok (.istore 6, 2) := dk_54 6 (dk_at dksX6_goes_3 7 rfl rfl)
theorem dX6_goes_77 : decode cX6_goes 77 = .ok (.iload 6, 2) := dk_21 6 (dk_at dksX6_goes_3 9 rfl rfl)
theorem dX6_goes_79 : decode cX6_goes 79 = .ok (.iconst 4, 1) := dk_7 (dk_at dksX6_goes_3 11 rfl rfl)
theorem dX6_goes_80 : decode cX6_goes 80 = .ok (.if_icmp .gt 94, 3) := dk_163 0 94 (dk_at dksX6_goes_3 12 rfl rfl)
theorem dX6_goes_83 : decode cX6_goes 83 = .ok (.aload_n 0, 1) := dk_42 (dk_at dksX6_goes_3 15 rfl rfl)
theorem dX6_goes_84 : decode cX6_goes 84 = .ok (.getfield 3, 3) := dk_180 0 3 (dk_at dksX6_goes_3 16 rfl rfl)
theorem dX6_goes_87 : decode cX6_goes 87 = .ok (.getfield 26, 3) := dk_180 0 26 (dk_at dksX6_goes_3 19 rfl rfl)
theorem dX6_goes_90 : decode cX6_goes 90 = .ok (.getfield 50, 3) := dk_180 0 50 (dk_at dksX6_goes_4 0 rfl rfl)
theorem dX6_goes_93 : decode cX6_goes 93 = .ok (.iload 5, 2) := dk_21 5 (dk_at dksX6_goes_4 3 rfl rfl)
theorem dX6_goes_95 : decode cX6_goes 95 = .ok (.iload 6, 2) := dk_21 6 (dk_at dksX6_goes_4 5 rfl rfl)
theorem dX6_goes_97 : decode cX6_goes 97 = .ok (.invokevirtual 87, 3) := dk_182 0 87 (dk_at dksX6_goes_4 7 rfl rfl)
theorem dX6_goes_100 : decode cX6_goes 100 = .ok (.istore 7, 2) := dk_54 7 (dk_at dksX6_goes_4 10 rfl rfl)
theorem dX6_goes_102 : decode cX6_goes 102 = .ok (.iload 6, 2) := dk_21 6 (dk_at dksX6_goes_4 12 rfl rfl)
theorem dX6_goes_104 : decode cX6_goes 104 = .ok (.ifCond .eq 15, 3) := dk_153 0 15 (dk_at dksX6_goes_4 14 rfl rfl)
theorem dX6_goes_107 : decode cX6_goes 107 = .ok (.iload 4, 2) := dk_21 4 (dk_at dksX6_goes_4 17 rfl rfl)
theorem dX6_goes_109 : decode cX6_goes 109 = .ok (.ifCond .ne 14, 3) := dk_154 0 14 (dk_at dksX6_goes_4 19 rfl rfl)
theorem dX6_goes_112 : decode cX6_goes 112 = .ok (.iload 7, 2) := dk_21 7 (dk_at dksX6_goes_4 22 rfl rfl)
theorem dX6_goes_114 : decode cX6_goes 114 = .ok (.iload 5, 2) := dk_21 5 (dk_at dksX6_goes_5 0 rfl rfl)
theorem dX6_goes_116 : decode cX6_goes 116 = .ok (.if_icmp .eq 7, 3) := dk_159 0 7 (dk_at dksX6_goes_5 2 rfl rfl)
theorem dX6_goes_119 : decode cX6_goes 119 = .ok (.iconst 1, 1) := dk_4 (dk_at dksX6_goes_5 5 rfl rfl)
theorem dX6_goes_120 : decode cX6_goes 120 = .ok (.goto 4, 3) := dk_167 0 4 (dk_at dksX6_goes_5 6 rfl rfl)
theorem dX6_goes_123 : decode cX6_goes 123 = .ok (.iconst 0, 1) := dk_3 (dk_at dksX6_goes_5 9 rfl rfl)
theorem dX6_goes_124 : decode cX6_goes 124 = .ok (.istore 8, 2) := dk_54 8 (dk_at dksX6_goes_5 10 rfl rfl)
theorem dX6_goes_126 : decode cX6_goes 126 = .ok (.iload 8, 2) := dk_21 8 (dk_at dksX6_goes_5 12 rfl rfl)
theorem dX6_goes_128 : decode cX6_goes 128 = .ok (.ifCond .eq 40, 3) := dk_153 0 40 (dk_at dksX6_goes_5 14 rfl rfl)
theorem dX6_goes_131 : decode cX6_goes 131 = .ok (.iload_n 1, 1) := dk_27 (dk_at dksX6_goes_5 17 rfl rfl)
theorem dX6_goes_132 : decode cX6_goes 132 = .ok (.ifCond .eq 14, 3) := dk_153 0 14 (dk_at dksX6_goes_5 18 rfl rfl)
theorem dX6_goes_135 : decode cX6_goes 135 = .ok (.iload_n 2, 1) := dk_28 (dk_at dksX6_goes_5 21 rfl rfl)
theorem dX6_goes_136 : decode cX6_goes 136 = .ok (.iconst (-1), 1) := dk_2 (dk_at dksX6_goes_5 22 rfl rfl)
theorem dX6_goes_137 : decode cX6_goes 137 = .ok (.if_icmp .eq 9, 3) := dk_159 0 9 (dk_at dksX6_goes_6 0 rfl rfl)
theorem dX6_goes_140 : decode cX6_goes 140 = .ok (.iload 6, 2) := dk_21 6 (dk_at dksX6_goes_6 3 rfl rfl)
theorem dX6_goes_142 : decode cX6_goes 142 = .ok (.iload_n 2, 1) := dk_28 (dk_at dksX6_goes_6 5 rfl rfl)
theorem dX6_goes_143 : decode cX6_goes 143 = .ok (.if_icmp .ne 25, 3) := dk_160 0 25 (dk_at dksX6_goes_6 6 rfl rfl)
theorem dX6_goes_146 : decode cX6_goes 146 = .ok (.aload_n 0, 1) := dk_42 (dk_at dksX6_goes_6 9 rfl rfl)
theorem dX6_goes_147 : decode cX6_goes 147 = .ok (.iload 7, 2) := dk_21 7 (dk_at dksX6_goes_6 10 rfl rfl)
theorem dX6_goes_149 : decode cX6_goes 149 = .ok (.iload 6, 2) := dk_21 6 (dk_at dksX6_goes_6 12 rfl rfl)
theorem dX6_goes_151 : decode cX6_goes 151 = .ok (.ifCond .ne 12, 3) := dk_154 0 12 (dk_at dksX6_goes_6 14 rfl rfl)
theorem dX6_goes_154 : decode cX6_goes 154 = .ok (.iload 4, 2) := dk_21 4 (dk_at dksX6_goes_6 17 rfl rfl)
theorem dX6_goes_156 : decode cX6_goes 156 = .ok (.ifCond .ne 7, 3) := dk_154 0 7 (dk_at dksX6_goes_6 19 rfl rfl)
theorem dX6_goes_159 : decode cX6_goes 159 = .ok (.iconst 1, 1) := dk_4 (dk_at dksX6_goes_6 22 rfl rfl)
theorem dX6_goes_160 : decode cX6_goes 160 = .ok (.goto 4, 3) := dk_167 0 4 (dk_at dksX6_goes_7 0 rfl rfl)
theorem dX6_goes_163 : decode cX6_goes 163 = .ok (.iconst 0, 1) := dk_3 (dk_at dksX6_goes_7 3 rfl rfl)
theorem dX6_goes_164 : decode cX6_goes 164 = .ok (.iload_n 3, 1) := dk_29 (dk_at dksX6_goes_7 4 rfl rfl)
theorem dX6_goes_165 : decode cX6_goes 165 = .ok (.invokevirtual 91, 3) := dk_182 0 91 (dk_at dksX6_goes_7 5 rfl rfl)
theorem dX6_goes_168 : decode cX6_goes 168 = .ok (.iinc 6 1, 3) := dk_132 6 1 (dk_at dksX6_goes_7 8 rfl rfl)
theorem dX6_goes_171 : decode cX6_goes 171 = .ok (.goto (-94), 3) := dk_167 255 162 (dk_at dksX6_goes_7 11 rfl rfl)
theorem dX6_goes_174 : decode cX6_goes 174 = .ok (.iinc 5 1, 3) := dk_132 5 1 (dk_at dksX6_goes_7 14 rfl rfl)
theorem dX6_goes_177 : decode cX6_goes 177 = .ok (.goto (-138), 3) := dk_167 255 118 (dk_at dksX6_goes_7 17 rfl rfl)
theorem dX6_goes_180 : decode cX6_goes 180 = .ok (.return_, 1) := dk_177 (dk_at dksX6_goes_7 20 rfl rfl)
def dkwX6_lies_5 : List UInt8 := [4, 163, 0, 7, 4, 167, 0, 4, 3, 128, 181, 0, 22, 177]
abbrev dktX6_lies_5 : List UInt8 := dkwX6_lies_5 ++ []
def dkwX6_lies_4 : List UInt8 := [181, 0, 78, 42, 89, 180, 0, 22, 42, 180, 0, 3, 180, 0, 26, 180, 0, 50, 27, 21, 5, 182, 0, 119]
abbrev dktX6_lies_4 : List UInt8 := dkwX6_lies_4 ++ dktX6_lies_5
def dkwX6_lies_3 : List UInt8 := [25, 4, 180, 0, 112, 28, 29, 182, 0, 115, 153, 0, 4, 177, 42, 89, 180, 0, 78, 10, 27, 121, 129]
abbrev dktX6_lies_3 : List UInt8 := dkwX6_lies_3 ++ dktX6_lies_4
def dkwX6_lies_2 : List UInt8 := [180, 0, 19, 51, 182, 0, 106, 153, 0, 30, 42, 180, 0, 3, 180, 0, 26, 180, 0, 50, 27, 21, 5]
abbrev dktX6_lies_2 : List UInt8 := dkwX6_lies_2 ++ dktX6_lies_3
def dkwX6_lies_1 : List UInt8 := [180, 0, 99, 42, 180, 0, 19, 46, 54, 5, 25, 4, 42, 180, 0, 3, 180, 0, 26, 180, 0, 102, 42]
abbrev dktX6_lies_1 : List UInt8 := dkwX6_lies_1 ++ dktX6_lies_2
def dkwX6_lies_0 : List UInt8 := [42, 180, 0, 3, 180, 0, 26, 42, 180, 0, 19, 182, 0, 95, 58, 4, 42, 180, 0, 3, 180, 0, 26]
abbrev dktX6_lies_0 : List UInt8 := dkwX6_lies_0 ++ dktX6_lies_1
theorem dksX6_lies_0 : cX6_lies.data.toList.drop 0 = dktX6_lies_0 := by decide +kernel
theorem dksX6_lies_1 : cX6_lies.data.toList.drop 23 = dktX6_lies_1 := dk_seg dksX6_lies_0 23 rfl rfl
theorem dksX6_lies_2 : cX6_lies.data.toList.drop 46 = dktX6_lies_2 := dk_seg dksX6_lies_1 23 rfl rfl
theorem dksX6_lies_3 : cX6_lies.data.toList.drop 69 = dktX6_lies_3 := dk_seg dksX6_lies_2 23 rfl rfl
theorem dksX6_lies_4 : cX6_lies.data.toList.drop 92 = dktX6_lies_4 := dk_seg dksX6_lies_3 23 rfl rfl
theorem dksX6_lies_5 : cX6_lies.data.toList.drop 116 = dktX6_lies_5 := dk_seg dksX6_lies_4 24 rfl rfl
theorem dX6_lies_0 : decode cX6_lies 0 = .ok (.aload_n 0, 1) := dk_42 (dk_at dksX6_lies_0 0 rfl rfl)
theorem dX6_lies_1 : decode cX6_lies 1 = .ok (.getfield 3, 3) := dk_180 0 3 (dk_at dksX6_lies_0 1 rfl rfl)
theorem dX6_lies_4 : decode cX6_lies 4 = .ok (.getfield 26, 3) := dk_180 0 26 (dk_at dksX6_lies_0 4 rfl rfl)
theorem dX6_lies_7 : decode cX6_lies 7 = .ok (.aload_n 0, 1) := dk_42 (dk_at dksX6_lies_0 7 rfl rfl)
theorem dX6_lies_8 : decode cX6_lies 8 = .ok (.getfield 19, 3) := dk_180 0 19 (dk_at dksX6_lies_0 8 rfl rfl)
theorem dX6_lies_11 : decode cX6_lies 11 = .ok (.invokevirtual 95, 3) := dk_182 0 95 (dk_at dksX6_lies_0 11 rfl rfl)
theorem dX6_lies_14 : decode cX6_lies 14 = .ok (.astore 4, 2) := dk_58 4 (dk_at dksX6_lies_0 14 rfl rfl)
theorem dX6_lies_16 : decode cX6_lies 16 = .ok (.aload_n 0, 1) := dk_42 (dk_at dksX6_lies_0 16 rfl rfl)
theorem dX6_lies_17 : decode cX6_lies 17 = .ok (.getfield 3, 3) := dk_180 0 3 (dk_at dksX6_lies_0 17 rfl rfl)
theorem dX6_lies_20 : decode cX6_lies 20 = .ok (.getfield 26, 3) := dk_180 0 26 (dk_at dksX6_lies_0 20 rfl rfl)
theorem dX6_lies_23 : decode cX6_lies 23 = .ok (.getfield 99, 3) := dk_180 0 99 (dk_at dksX6_lies_1 0 rfl rfl)
theorem dX6_lies_26 : decode cX6_lies 26 = .ok (.aload_n 0, 1) := dk_42 (dk_at dksX6_lies_1 3 rfl rfl)
theorem dX6_lies_27 : decode cX6_lies 27 = .ok (.getfield 19, 3) := dk_180 0 19 (dk_at dksX6_lies_1 4 rfl rfl)
theorem dX6_lies_30 : decode cX6_lies 30 = .ok (.iaload, 1) := dk_46 (dk_at dksX6_lies_1 7 rfl rfl)
theorem dX6_lies_31 : decode cX6_lies 31 = .ok (.istore 5, 2) := dk_54 5 (dk_at dksX6_lies_1 8 rfl rfl)
theorem dX6_lies_33 : decode cX6_lies 33 = .ok (.aload 4, 2) := dk_25 4 (dk_at dksX6_lies_1 10 rfl rfl)
theorem dX6_lies_35 : decode cX6_lies 35 = .ok (.aload_n 0, 1) := dk_42 (dk_at dksX6_lies_1 12 rfl rfl)
theorem dX6_lies_36 : decode cX6_lies 36 = .ok (.getfield 3, 3) := dk_180 0 3 (dk_at dksX6_lies_1 13 rfl rfl)
theorem dX6_lies_39 : decode cX6_lies 39 = .ok (.getfield 26, 3) := dk_180 0 26 (dk_at dksX6_lies_1 16 rfl rfl)
theorem dX6_lies_42 : decode cX6_lies 42 = .ok (.getfield 102, 3) := dk_180 0 102 (dk_at dksX6_lies_1 19 rfl rfl)
theorem dX6_lies_45 : decode cX6_lies 45 = .ok (.aload_n 0, 1) := dk_42 (dk_at dksX6_lies_1 22 rfl rfl)
theorem dX6_lies_46 : decode cX6_lies 46 = .ok (.getfield 19, 3) := dk_180 0 19 (dk_at dksX6_lies_2 0 rfl rfl)
theorem dX6_lies_49 : decode cX6_lies 49 = .ok (.baload, 1) := dk_51 (dk_at dksX6_lies_2 3 rfl rfl)
theorem dX6_lies_50 : decode cX6_lies 50 = .ok (.invokevirtual 106, 3) := dk_182 0 106 (dk_at dksX6_lies_2 4 rfl rfl)
theorem dX6_lies_53 : decode cX6_lies 53 = .ok (.ifCond .eq 30, 3) := dk_153 0 30 (dk_at dksX6_lies_2 7 rfl rfl)
theorem dX6_lies_56 : decode cX6_lies 56 = .ok (.aload_n 0, 1) := dk_42 (dk_at dksX6_lies_2 10 rfl rfl)
theorem dX6_lies_57 : decode cX6_lies 57 = .ok (.getfield 3, 3) := dk_180 0 3 (dk_at dksX6_lies_2 11 rfl rfl)
theorem dX6_lies_60 : decode cX6_lies 60 = .ok (.getfield 26, 3) := dk_180 0 26 (dk_at dksX6_lies_2 14 rfl rfl)
theorem dX6_lies_63 : decode cX6_lies 63 = .ok (.getfield 50, 3) := dk_180 0 50 (dk_at dksX6_lies_2 17 rfl rfl)
theorem dX6_lies_66 : decode cX6_lies 66 = .ok (.iload_n 1, 1) := dk_27 (dk_at dksX6_lies_2 20 rfl rfl)
theorem dX6_lies_67 : decode cX6_lies 67 = .ok (.iload 5, 2) := dk_21 5 (dk_at dksX6_lies_2 21 rfl rfl)
theorem dX6_lies_69 : decode cX6_lies 69 = .ok (.aload 4, 2) := dk_25 4 (dk_at dksX6_lies_3 0 rfl rfl)
theorem dX6_lies_71 : decode cX6_lies 71 = .ok (.getfield 112, 3) := dk_180 0 112 (dk_at dksX6_lies_3 2 rfl rfl)
theorem dX6_lies_74 : decode cX6_lies 74 = .ok (.iload_n 2, 1) := dk_28 (dk_at dksX6_lies_3 5 rfl rfl)
theorem dX6_lies_75 : decode cX6_lies 75 = .ok (.iload_n 3, 1) := dk_29 (dk_at dksX6_lies_3 6 rfl rfl)
theorem dX6_lies_76 : decode cX6_lies 76 = .ok (.invokevirtual 115, 3) := dk_182 0 115 (dk_at dksX6_lies_3 7 rfl rfl)
theorem dX6_lies_79 : decode cX6_lies 79 = .ok (.ifCond .eq 4, 3) := dk_153 0 4 (dk_at dksX6_lies_3 10 rfl rfl)
theorem dX6_lies_82 : decode cX6_lies 82 = .ok (.return_, 1) := dk_177 (dk_at dksX6_lies_3 13 rfl rfl)
theorem dX6_lies_83 : decode cX6_lies 83 = .ok (.aload_n 0, 1) := dk_42 (dk_at dksX6_lies_3 14 rfl rfl)
theorem dX6_lies_84 : decode cX6_lies 84 = .ok (.dup, 1) := dk_89 (dk_at dksX6_lies_3 15 rfl rfl)
theorem dX6_lies_85 : decode cX6_lies 85 = .ok (.getfield 78, 3) := dk_180 0 78 (dk_at dksX6_lies_3 16 rfl rfl)
theorem dX6_lies_88 : decode cX6_lies 88 = .ok (.lconst 1, 1) := dk_10 (dk_at dksX6_lies_3 19 rfl rfl)
theorem dX6_lies_89 : decode cX6_lies 89 = .ok (.iload_n 1, 1) := dk_27 (dk_at dksX6_lies_3 20 rfl rfl)
theorem dX6_lies_90 : decode cX6_lies 90 = .ok (.lshl, 1) := dk_121 (dk_at dksX6_lies_3 21 rfl rfl)
theorem dX6_lies_91 : decode cX6_lies 91 = .ok (.lor, 1) := dk_129 (dk_at dksX6_lies_3 22 rfl rfl)
theorem dX6_lies_92 : decode cX6_lies 92 = .ok (.putfield 78, 3) := dk_181 0 78 (dk_at dksX6_lies_4 0 rfl rfl)
theorem dX6_lies_95 : decode cX6_lies 95 = .ok (.aload_n 0, 1) := dk_42 (dk_at dksX6_lies_4 3 rfl rfl)
theorem dX6_lies_96 : decode cX6_lies 96 = .ok (.dup, 1) := dk_89 (dk_at dksX6_lies_4 4 rfl rfl)
theorem dX6_lies_97 : decode cX6_lies 97 = .ok (.getfield 22, 3) := dk_180 0 22 (dk_at dksX6_lies_4 5 rfl rfl)
theorem dX6_lies_100 : decode cX6_lies 100 = .ok (.aload_n 0, 1) := dk_42 (dk_at dksX6_lies_4 8 rfl rfl)
theorem dX6_lies_101 : decode cX6_lies 101 = .ok (.getfield 3, 3) := dk_180 0 3 (dk_at dksX6_lies_4 9 rfl rfl)
theorem dX6_lies_104 : decode cX6_lies 104 = .ok (.getfield 26, 3) := dk_180 0 26 (dk_at dksX6_lies_4 12 rfl rfl)
theorem dX6_lies_107 : decode cX6_lies 107 = .ok (.getfield 50, 3) := dk_180 0 50 (dk_at dksX6_lies_4 15 rfl rfl)
theorem dX6_lies_110 : decode cX6_lies 110 = .ok (.iload_n 1, 1) := dk_27 (dk_at dksX6_lies_4 18 rfl rfl)
theorem dX6_lies_111 : decode cX6_lies 111 = .ok (.iload 5, 2) := dk_21 5 (dk_at dksX6_lies_4 19 rfl rfl)
theorem dX6_lies_113 : decode cX6_lies 113 = .ok (.invokevirtual 119, 3) := dk_182 0 119 (dk_at dksX6_lies_4 21 rfl rfl)
theorem dX6_lies_116 : decode cX6_lies 116 = .ok (.iconst 1, 1) := dk_4 (dk_at dksX6_lies_5 0 rfl rfl)
theorem dX6_lies_117 : decode cX6_lies 117 = .ok (.if_icmp .gt 7, 3) := dk_163 0 7 (dk_at dksX6_lies_5 1 rfl rfl)
theorem dX6_lies_120 : decode cX6_lies 120 = .ok (.iconst 1, 1) := dk_4 (dk_at dksX6_lies_5 4 rfl rfl)
theorem dX6_lies_121 : decode cX6_lies 121 = .ok (.goto 4, 3) := dk_167 0 4 (dk_at dksX6_lies_5 5 rfl rfl)
theorem dX6_lies_124 : decode cX6_lies 124 = .ok (.iconst 0, 1) := dk_3 (dk_at dksX6_lies_5 8 rfl rfl)
theorem dX6_lies_125 : decode cX6_lies 125 = .ok (.ior, 1) := dk_128 (dk_at dksX6_lies_5 9 rfl rfl)
theorem dX6_lies_126 : decode cX6_lies 126 = .ok (.putfield 22, 3) := dk_181 0 22 (dk_at dksX6_lies_5 10 rfl rfl)
theorem dX6_lies_129 : decode cX6_lies 129 = .ok (.return_, 1) := dk_177 (dk_at dksX6_lies_5 13 rfl rfl)
def dkwX7_init_1 : List UInt8 := [42, 7, 188, 10, 181, 0, 22, 177]
abbrev dktX7_init_1 : List UInt8 := dkwX7_init_1 ++ []
def dkwX7_init_0 : List UInt8 := [42, 43, 181, 0, 3, 42, 183, 0, 9, 42, 16, 20, 188, 10, 181, 0, 15, 42, 7, 188, 10, 181, 0, 19]
abbrev dktX7_init_0 : List UInt8 := dkwX7_init_0 ++ dktX7_init_1
theorem dksX7_init_0 : cX7_init.data.toList.drop 0 = dktX7_init_0 := by decide +kernel
theorem dksX7_init_1 : cX7_init.data.toList.drop 24 = dktX7_init_1 := dk_seg dksX7_init_0 24 rfl rfl
theorem dX7_init_0 : decode cX7_init 0 = .ok (.aload_n 0, 1) := dk_42 (dk_at dksX7_init_0 0 rfl rfl)
theorem dX7_init_1 : decode cX7_init 1 = .ok (.aload_n 1, 1) := dk_43 (dk_at dksX7_init_0 1 rfl rfl)
theorem dX7_init_2 : decode cX7_init 2 = .ok (.putfield 3, 3) := dk_181 0 3 (dk_at dksX7_init_0 2 rfl rfl)
theorem dX7_init_5 : decode cX7_init 5 = .ok (.aload_n 0, 1) := dk_42 (dk_at dksX7_init_0 5 rfl rfl)
theorem dX7_init_6 : decode cX7_init 6 = .ok (.invokespecial 9, 3) := dk_183 0 9 (dk_at dksX7_init_0 6 rfl rfl)
theorem dX7_init_9 : decode cX7_init 9 = .ok (.aload_n 0, 1) := dk_42 (dk_at dksX7_init_0 9 rfl rfl)
theorem dX7_init_10 : decode cX7_init 10 = .ok (.bipush 20, 2) := dk_16 20 (dk_at dksX7_init_0 10 rfl rfl)
theorem dX7_init_12 : decode cX7_init 12 = .ok (.newarray .int, 2) := dk_188_10 (dk_at dksX7_init_0 12 rfl rfl)
theorem dX7_init_14 : decode cX7_init 14 = .ok (.putfield 15, 3) := dk_181 0 15 (dk_at dksX7_init_0 14 rfl rfl)
theorem dX7_init_17 : decode cX7_init 17 = .ok (.aload_n 0, 1) := dk_42 (dk_at dksX7_init_0 17 rfl rfl)
theorem dX7_init_18 : decode cX7_init 18 = .ok (.iconst 4, 1) := dk_7 (dk_at dksX7_init_0 18 rfl rfl)
theorem dX7_init_19 : decode cX7_init 19 = .ok (.newarray .int, 2) := dk_188_10 (dk_at dksX7_init_0 19 rfl rfl)
theorem dX7_init_21 : decode cX7_init 21 = .ok (.putfield 19, 3) := dk_181 0 19 (dk_at dksX7_init_0 21 rfl rfl)
theorem dX7_init_24 : decode cX7_init 24 = .ok (.aload_n 0, 1) := dk_42 (dk_at dksX7_init_1 0 rfl rfl)
theorem dX7_init_25 : decode cX7_init 25 = .ok (.iconst 4, 1) := dk_7 (dk_at dksX7_init_1 1 rfl rfl)
theorem dX7_init_26 : decode cX7_init 26 = .ok (.newarray .int, 2) := dk_188_10 (dk_at dksX7_init_1 2 rfl rfl)
theorem dX7_init_28 : decode cX7_init 28 = .ok (.putfield 22, 3) := dk_181 0 22 (dk_at dksX7_init_1 4 rfl rfl)
theorem dX7_init_31 : decode cX7_init 31 = .ok (.return_, 1) := dk_177 (dk_at dksX7_init_1 7 rfl rfl)
def dkwX7_finds_3 : List UInt8 := [3, 182, 0, 43, 42, 176]
abbrev dktX7_finds_3 : List UInt8 := dkwX7_finds_3 ++ []
def dkwX7_finds_2 : List UInt8 := [180, 0, 3, 28, 29, 182, 0, 39, 79, 132, 3, 1, 167, 255, 223, 132, 2, 1, 167, 255, 204, 42, 3, 3]
abbrev dktX7_finds_2 : List UInt8 := dkwX7_finds_2 ++ dktX7_finds_3
def dkwX7_finds_1 : List UInt8 := [62, 29, 42, 180, 0, 3, 182, 0, 36, 162, 0, 28, 42, 180, 0, 15, 8, 28, 104, 29, 96, 42]
abbrev dktX7_finds_1 : List UInt8 := dkwX7_finds_1 ++ dktX7_finds_2
def dkwX7_finds_0 : List UInt8 := [42, 27, 181, 0, 25, 42, 2, 181, 0, 29, 3, 61, 28, 42, 180, 0, 3, 182, 0, 32, 162, 0, 47, 3]
abbrev dktX7_finds_0 : List UInt8 := dkwX7_finds_0 ++ dktX7_finds_1
theorem dksX7_finds_0 : cX7_finds.data.toList.drop 0 = dktX7_finds_0 := by decide +kernel
theorem dksX7_finds_1 : cX7_finds.data.toList.drop 24 = dktX7_finds_1 := dk_seg dksX7_finds_0 24 rfl rfl
theorem dksX7_finds_2 : cX7_finds.data.toList.drop 46 = dktX7_finds_2 := dk_seg dksX7_finds_1 22 rfl rfl
theorem dksX7_finds_3 : cX7_finds.data.toList.drop 70 = dktX7_finds_3 := dk_seg dksX7_finds_2 24 rfl rfl
theorem dX7_finds_0 : decode cX7_finds 0 = .ok (.aload_n 0, 1) := dk_42 (dk_at dksX7_finds_0 0 rfl rfl)
theorem dX7_finds_1 : decode cX7_finds 1 = .ok (.iload_n 1, 1) := dk_27 (dk_at dksX7_finds_0 1 rfl rfl)
theorem dX7_finds_2 : decode cX7_finds 2 = .ok (.putfield 25, 3) := dk_181 0 25 (dk_at dksX7_finds_0 2 rfl rfl)
theorem dX7_finds_5 : decode cX7_finds 5 = .ok (.aload_n 0, 1) := dk_42 (dk_at dksX7_finds_0 5 rfl rfl)
theorem dX7_finds_6 : decode cX7_finds 6 = .ok (.iconst (-1), 1) := dk_2 (dk_at dksX7_finds_0 6 rfl rfl)
theorem dX7_finds_7 : decode cX7_finds 7 = .ok (.putfield 29, 3) := dk_181 0 29 (dk_at dksX7_finds_0 7 rfl rfl)
theorem dX7_finds_10 : decode cX7_finds 10 = .ok (.iconst 0, 1) := dk_3 (dk_at dksX7_finds_0 10 rfl rfl)
theorem dX7_finds_11 : decode cX7_finds 11 = .ok (.istore_n 2, 1) := dk_61 (dk_at dksX7_finds_0 11 rfl rfl)
theorem dX7_finds_12 : decode cX7_finds 12 = .ok (.iload_n 2, 1) := dk_28 (dk_at dksX7_finds_0 12 rfl rfl)
theorem dX7_finds_13 : decode cX7_finds 13 = .ok (.aload_n 0, 1) := dk_42 (dk_at dksX7_finds_0 13 rfl rfl)
theorem dX7_finds_14 : decode cX7_finds 14 = .ok (.getfield 3, 3) := dk_180 0 3 (dk_at dksX7_finds_0 14 rfl rfl)
theorem dX7_finds_17 : decode cX7_finds 17 = .ok (.invokevirtual 32, 3) := dk_182 0 32 (dk_at dksX7_finds_0 17 rfl rfl)
theorem dX7_finds_20 : decode cX7_finds 20 = .ok (.if_icmp .ge 47, 3) := dk_162 0 47 (dk_at dksX7_finds_0 20 rfl rfl)
theorem dX7_finds_23 : decode cX7_finds 23 = .ok (.iconst 0, 1) := dk_3 (dk_at dksX7_finds_0 23 rfl rfl)
theorem dX7_finds_24 : decode cX7_finds 24 = .ok (.istore_n 3, 1) := dk_62 (dk_at dksX7_finds_1 0 rfl rfl)
theorem dX7_finds_25 : decode cX7_finds 25 = .ok (.iload_n 3, 1) := dk_29 (dk_at dksX7_finds_1 1 rfl rfl)
theorem dX7_finds_26 : decode cX7_finds 26 = .ok (.aload_n 0, 1) := dk_42 (dk_at dksX7_finds_1 2 rfl rfl)
theorem dX7_finds_27 : decode cX7_finds 27 = .ok (.getfield 3, 3) := dk_180 0 3 (dk_at dksX7_finds_1 3 rfl rfl)
theorem dX7_finds_30 : decode cX7_finds 30 = .ok (.invokevirtual 36, 3) := dk_182 0 36 (dk_at dksX7_finds_1 6 rfl rfl)
theorem dX7_finds_33 : decode cX7_finds 33 = .ok (.if_icmp .ge 28, 3) := dk_162 0 28 (dk_at dksX7_finds_1 9 rfl rfl)
theorem dX7_finds_36 : decode cX7_finds 36 = .ok (.aload_n 0, 1) := dk_42 (dk_at dksX7_finds_1 12 rfl rfl)
theorem dX7_finds_37 : decode cX7_finds 37 = .ok (.getfield 15, 3) := dk_180 0 15 (dk_at dksX7_finds_1 13 rfl rfl)
theorem dX7_finds_40 : decode cX7_finds 40 = .ok (.iconst 5, 1) := dk_8 (dk_at dksX7_finds_1 16 rfl rfl)
theorem dX7_finds_41 : decode cX7_finds 41 = .ok (.iload_n 2, 1) := dk_28 (dk_at dksX7_finds_1 17 rfl rfl)
theorem dX7_finds_42 : decode cX7_finds 42 = .ok (.imul, 1) := dk_104 (dk_at dksX7_finds_1 18 rfl rfl)
theorem dX7_finds_43 : decode cX7_finds 43 = .ok (.iload_n 3, 1) := dk_29 (dk_at dksX7_finds_1 19 rfl rfl)
theorem dX7_finds_44 : decode cX7_finds 44 = .ok (.iadd, 1) := dk_96 (dk_at dksX7_finds_1 20 rfl rfl)
theorem dX7_finds_45 : decode cX7_finds 45 = .ok (.aload_n 0, 1) := dk_42 (dk_at dksX7_finds_1 21 rfl rfl)
theorem dX7_finds_46 : decode cX7_finds 46 = .ok (.getfield 3, 3) := dk_180 0 3 (dk_at dksX7_finds_2 0 rfl rfl)
theorem dX7_finds_49 : decode cX7_finds 49 = .ok (.iload_n 2, 1) := dk_28 (dk_at dksX7_finds_2 3 rfl rfl)
theorem dX7_finds_50 : decode cX7_finds 50 = .ok (.iload_n 3, 1) := dk_29 (dk_at dksX7_finds_2 4 rfl rfl)
theorem dX7_finds_51 : decode cX7_finds 51 = .ok (.invokevirtual 39, 3) := dk_182 0 39 (dk_at dksX7_finds_2 5 rfl rfl)
theorem dX7_finds_54 : decode cX7_finds 54 = .ok (.iastore, 1) := dk_79 (dk_at dksX7_finds_2 8 rfl rfl)
theorem dX7_finds_55 : decode cX7_finds 55 = .ok (.iinc 3 1, 3) := dk_132 3 1 (dk_at dksX7_finds_2 9 rfl rfl)
theorem dX7_finds_58 : decode cX7_finds 58 = .ok (.goto (-33), 3) := dk_167 255 223 (dk_at dksX7_finds_2 12 rfl rfl)
theorem dX7_finds_61 : decode cX7_finds 61 = .ok (.iinc 2 1, 3) := dk_132 2 1 (dk_at dksX7_finds_2 15 rfl rfl)
theorem dX7_finds_64 : decode cX7_finds 64 = .ok (.goto (-52), 3) := dk_167 255 204 (dk_at dksX7_finds_2 18 rfl rfl)
theorem dX7_finds_67 : decode cX7_finds 67 = .ok (.aload_n 0, 1) := dk_42 (dk_at dksX7_finds_2 21 rfl rfl)
theorem dX7_finds_68 : decode cX7_finds 68 = .ok (.iconst 0, 1) := dk_3 (dk_at dksX7_finds_2 22 rfl rfl)
theorem dX7_finds_69 : decode cX7_finds 69 = .ok (.iconst 0, 1) := dk_3 (dk_at dksX7_finds_2 23 rfl rfl)
theorem dX7_finds_70 : decode cX7_finds 70 = .ok (.iconst 0, 1) := dk_3 (dk_at dksX7_finds_3 0 rfl rfl)
theorem dX7_finds_71 : decode cX7_finds 71 = .ok (.invokevirtual 43, 3) := dk_182 0 43 (dk_at dksX7_finds_3 1 rfl rfl)
theorem dX7_finds_74 : decode cX7_finds 74 = .ok (.aload_n 0, 1) := dk_42 (dk_at dksX7_finds_3 4 rfl rfl)
theorem dX7_finds_75 : decode cX7_finds 75 = .ok (.areturn, 1) := dk_176 (dk_at dksX7_finds_3 5 rfl rfl)
def dkwX7_goes_6 : List UInt8 := [42, 180, 0, 19, 27, 2, 79, 42, 27, 4, 96, 28, 29, 182, 0, 43, 177]
abbrev dktX7_goes_6 : List UInt8 := dkwX7_goes_6 ++ []
def dkwX7_goes_5 : List UInt8 := [180, 0, 3, 180, 0, 57, 21, 4, 182, 0, 61, 180, 0, 67, 96, 182, 0, 43, 132, 4, 1, 167, 255, 163]
abbrev dktX7_goes_5 : List UInt8 := dkwX7_goes_5 ++ dktX7_goes_6
def dkwX7_goes_4 : List UInt8 := [167, 0, 41, 42, 180, 0, 19, 27, 21, 4, 79, 42, 27, 4, 96, 28, 4, 21, 4, 120, 128, 29, 42]
abbrev dktX7_goes_4 : List UInt8 := dkwX7_goes_4 ++ dktX7_goes_5
def dkwX7_goes_3 : List UInt8 := [21, 4, 184, 0, 53, 154, 0, 59, 21, 5, 2, 159, 0, 53, 21, 5, 42, 180, 0, 25, 164, 0, 6]
abbrev dktX7_goes_3 : List UInt8 := dkwX7_goes_3 ++ dktX7_goes_4
def dkwX7_goes_2 : List UInt8 := [180, 0, 3, 182, 0, 36, 162, 0, 87, 42, 180, 0, 15, 8, 27, 104, 21, 4, 96, 46, 54, 5, 28]
abbrev dktX7_goes_2 : List UInt8 := dkwX7_goes_2 ++ dktX7_goes_3
def dkwX7_goes_1 : List UInt8 := [181, 0, 29, 42, 180, 0, 19, 3, 42, 180, 0, 22, 3, 7, 184, 0, 47, 177, 3, 54, 4, 21, 4, 42]
abbrev dktX7_goes_1 : List UInt8 := dkwX7_goes_1 ++ dktX7_goes_2
def dkwX7_goes_0 : List UInt8 := [27, 42, 180, 0, 3, 182, 0, 32, 160, 0, 32, 29, 42, 180, 0, 29, 163, 0, 4, 177, 42, 29]
abbrev dktX7_goes_0 : List UInt8 := dkwX7_goes_0 ++ dktX7_goes_1
theorem dksX7_goes_0 : cX7_goes.data.toList.drop 0 = dktX7_goes_0 := by decide +kernel
theorem dksX7_goes_1 : cX7_goes.data.toList.drop 22 = dktX7_goes_1 := dk_seg dksX7_goes_0 22 rfl rfl
theorem dksX7_goes_2 : cX7_goes.data.toList.drop 46 = dktX7_goes_2 := dk_seg dksX7_goes_1 24 rfl rfl
theorem dksX7_goes_3 : cX7_goes.data.toList.drop 69 = dktX7_goes_3 := dk_seg dksX7_goes_2 23 rfl rfl
theorem dksX7_goes_4 : cX7_goes.data.toList.drop 92 = dktX7_goes_4 := dk_seg dksX7_goes_3 23 rfl rfl
theorem dksX7_goes_5 : cX7_goes.data.toList.drop 115 = dktX7_goes_5 := dk_seg dksX7_goes_4 23 rfl rfl
theorem dksX7_goes_6 : cX7_goes.data.toList.drop 139 = dktX7_goes_6 := dk_seg dksX7_goes_5 24 rfl rfl
theorem dX7_goes_0 : decode cX7_goes 0 = .ok (.iload_n 1, 1) := dk_27 (dk_at dksX7_goes_0 0 rfl rfl)
theorem dX7_goes_1 : decode cX7_goes 1 = .ok (.aload_n 0, 1) := dk_42 (dk_at dksX7_goes_0 1 rfl rfl)
theorem dX7_goes_2 : decode cX7_goes 2 = .ok (.getfield 3, 3) := dk_180 0 3 (dk_at dksX7_goes_0 2 rfl rfl)
theorem dX7_goes_5 : decode cX7_goes 5 = .ok (.invokevirtual 32, 3) := dk_182 0 32 (dk_at dksX7_goes_0 5 rfl rfl)
theorem dX7_goes_8 : decode cX7_goes 8 = .ok (.if_icmp .ne 32, 3) := dk_160 0 32 (dk_at dksX7_goes_0 8 rfl rfl)
theorem dX7_goes_11 : decode cX7_goes 11 = .ok (.iload_n 3, 1) := dk_29 (dk_at dksX7_goes_0 11 rfl rfl)
theorem dX7_goes_12 : decode cX7_goes 12 = .ok (.aload_n 0, 1) := dk_42 (dk_at dksX7_goes_0 12 rfl rfl)
theorem dX7_goes_13 : decode cX7_goes 13 = .ok (.getfield 29, 3) := dk_180 0 29 (dk_at dksX7_goes_0 13 rfl rfl)
theorem dX7_goes_16 : decode cX7_goes 16 = .ok (.if_icmp .gt 4, 3) := dk_163 0 4 (dk_at dksX7_goes_0 16 rfl rfl)
theorem dX7_goes_19 : decode cX7_goes 19 = .ok (.return_, 1) := dk_177 (dk_at dksX7_goes_0 19 rfl rfl)
theorem dX7_goes_20 : decode cX7_goes 20 = .ok (.aload_n 0, 1) := dk_42 (dk_at dksX7_goes_0 20 rfl rfl)
theorem dX7_goes_21 : decode cX7_goes 21 = .ok (.iload_n 3, 1) := dk_29 (dk_at dksX7_goes_0 21 rfl rfl)
theorem dX7_goes_22 : decode cX7_goes 22 = .ok (.putfield 29, 3) := dk_181 0 29 (dk_at dksX7_goes_1 0 rfl rfl)
theorem dX7_goes_25 : decode cX7_goes 25 = .ok (.aload_n 0, 1) := dk_42 (dk_at dksX7_goes_1 3 rfl rfl)
theorem dX7_goes_26 : decode cX7_goes 26 = .ok (.getfield 19, 3) := dk_180 0 19 (dk_at dksX7_goes_1 4 rfl rfl)
theorem dX7_goes_29 : decode cX7_goes 29 = .ok (.iconst 0, 1) := dk_3 (dk_at dksX7_goes_1 7 rfl rfl)
theorem dX7_goes_30 : decode cX7_goes 30 = .ok (.aload_n 0, 1) := dk_42 (dk_at dksX7_goes_1 8 rfl rfl)
theorem dX7_goes_31 : decode cX7_goes 31 = .ok (.getfield 22, 3) := dk_180 0 22 (dk_at dksX7_goes_1 9 rfl rfl)
theorem dX7_goes_34 : decode cX7_goes 34 = .ok (.iconst 0, 1) := dk_3 (dk_at dksX7_goes_1 12 rfl rfl)
theorem dX7_goes_35 : decode cX7_goes 35 = .ok (.iconst 4, 1) := dk_7 (dk_at dksX7_goes_1 13 rfl rfl)
theorem dX7_goes_36 : decode cX7_goes 36 = .ok (.invokestatic 47, 3) := dk_184 0 47 (dk_at dksX7_goes_1 14 rfl rfl)
theorem dX7_goes_39 : decode cX7_goes 39 = .ok (.return_, 1) := dk_177 (dk_at dksX7_goes_1 17 rfl rfl)
theorem dX7_goes_40 : decode cX7_goes 40 = .ok (.iconst 0, 1) := dk_3 (dk_at dksX7_goes_1 18 rfl rfl)
theorem dX7_goes_41 : decode cX7_goes 41 = .ok (.istore 4, 2) := dk_54 4 (dk_at dksX7_goes_1 19 rfl rfl)
theorem dX7_goes_43 : decode cX7_goes 43 = .ok (.iload 4, 2) := dk_21 4 (dk_at dksX7_goes_1 21 rfl rfl)
theorem dX7_goes_45 : decode cX7_goes 45 = .ok (.aload_n 0, 1) := dk_42 (dk_at dksX7_goes_1 23 rfl rfl)
theorem dX7_goes_46 : decode cX7_goes 46 = .ok (.getfield 3, 3) := dk_180 0 3 (dk_at dksX7_goes_2 0 rfl rfl)
theorem dX7_goes_49 : decode cX7_goes 49 = .ok (.invokevirtual 36, 3) := dk_182 0 36 (dk_at dksX7_goes_2 3 rfl rfl)
theorem dX7_goes_52 : decode cX7_goes 52 = .ok (.if_icmp .ge 87, 3) := dk_162 0 87 (dk_at dksX7_goes_2 6 rfl rfl)
theorem dX7_goes_55 : decode cX7_goes 55 = .ok (.aload_n 0, 1) := dk_42 (dk_at dksX7_goes_2 9 rfl rfl)
theorem dX7_goes_56 : decode cX7_goes 56 = .ok (.getfield 15, 3) := dk_180 0 15 (dk_at dksX7_goes_2 10 rfl rfl)
theorem dX7_goes_59 : decode cX7_goes 59 = .ok (.iconst 5, 1) := dk_8 (dk_at dksX7_goes_2 13 rfl rfl)
theorem dX7_goes_60 : decode cX7_goes 60 = .ok (.iload_n 1, 1) := dk_27 (dk_at dksX7_goes_2 14 rfl rfl)
theorem dX7_goes_61 : decode cX7_goes 61 = .ok (.imul, 1) := dk_104 (dk_at dksX7_goes_2 15 rfl rfl)
theorem dX7_goes_62 : decode cX7_goes 62 = .ok (.iload 4, 2) := dk_21 4 (dk_at dksX7_goes_2 16 rfl rfl)
theorem dX7_goes_64 : decode cX7_goes 64 = .ok (.iadd, 1) := dk_96 (dk_at dksX7_goes_2 18 rfl rfl)
theorem dX7_goes_65 : decode cX7_goes 65 = .ok (.iaload, 1) := dk_46 (dk_at dksX7_goes_2 19 rfl rfl)
theorem dX7_goes_66 : decode cX7_goes 66 = .ok (.istore 5, 2) := dk_54 5 (dk_at dksX7_goes_2 20 rfl rfl)
theorem dX7_goes_68 : decode cX7_goes 68 = .ok (.iload_n 2, 1) := dk_28 (dk_at dksX7_goes_2 22 rfl rfl)
theorem dX7_goes_69 : decode cX7_goes 69 = .ok (.iload 4, 2) := dk_21 4 (dk_at dksX7_goes_3 0 rfl rfl)
theorem dX7_goes_71 : decode cX7_goes 71 = .ok (.invokestatic 53, 3) := dk_184 0 53 (dk_at dksX7_goes_3 2 rfl rfl)
theorem dX7_goes_74 : decode cX7_goes 74 = .ok (.ifCond .ne 59, 3) := dk_154 0 59 (dk_at dksX7_goes_3 5 rfl rfl)
theorem dX7_goes_77 : decode cX7_goes 77 = .ok (.iload 5, 2) := dk_21 5 (dk_at dksX7_goes_3 8 rfl rfl)
theorem dX7_goes_79 : decode cX7_goes 79 = .ok (.iconst (-1), 1) := dk_2 (dk_at dksX7_goes_3 10 rfl rfl)
theorem dX7_goes_80 : decode cX7_goes 80 = .ok (.if_icmp .eq 53, 3) := dk_159 0 53 (dk_at dksX7_goes_3 11 rfl rfl)
theorem dX7_goes_83 : decode cX7_goes 83 = .ok (.iload 5, 2) := dk_21 5 (dk_at dksX7_goes_3 14 rfl rfl)
theorem dX7_goes_85 : decode cX7_goes 85 = .ok (.aload_n 0, 1) := dk_42 (dk_at dksX7_goes_3 16 rfl rfl)
theorem dX7_goes_86 : decode cX7_goes 86 = .ok (.getfield 25, 3) := dk_180 0 25 (dk_at dksX7_goes_3 17 rfl rfl)
theorem dX7_goes_89 : decode cX7_goes 89 = .ok (.if_icmp .le 6, 3) := dk_164 0 6 (dk_at dksX7_goes_3 20 rfl rfl)
theorem dX7_goes_92 : decode cX7_goes 92 = .ok (.goto 41, 3) := dk_167 0 41 (dk_at dksX7_goes_4 0 rfl rfl)
theorem dX7_goes_95 : decode cX7_goes 95 = .ok (.aload_n 0, 1) := dk_42 (dk_at dksX7_goes_4 3 rfl rfl)
theorem dX7_goes_96 : decode cX7_goes 96 = .ok (.getfield 19, 3) := dk_180 0 19 (dk_at dksX7_goes_4 4 rfl rfl)
theorem dX7_goes_99 : decode cX7_goes 99 = .ok (.iload_n 1, 1) := dk_27 (dk_at dksX7_goes_4 7 rfl rfl)
theorem dX7_goes_100 : decode cX7_goes 100 = .ok (.iload 4, 2) := dk_21 4 (dk_at dksX7_goes_4 8 rfl rfl)
theorem dX7_goes_102 : decode cX7_goes 102 = .ok (.iastore, 1) := dk_79 (dk_at dksX7_goes_4 10 rfl rfl)
theorem dX7_goes_103 : decode cX7_goes 103 = .ok (.aload_n 0, 1) := dk_42 (dk_at dksX7_goes_4 11 rfl rfl)
theorem dX7_goes_104 : decode cX7_goes 104 = .ok (.iload_n 1, 1) := dk_27 (dk_at dksX7_goes_4 12 rfl rfl)
theorem dX7_goes_105 : decode cX7_goes 105 = .ok (.iconst 1, 1) := dk_4 (dk_at dksX7_goes_4 13 rfl rfl)
theorem dX7_goes_106 : decode cX7_goes 106 = .ok (.iadd, 1) := dk_96 (dk_at dksX7_goes_4 14 rfl rfl)
theorem dX7_goes_107 : decode cX7_goes 107 = .ok (.iload_n 2, 1) := dk_28 (dk_at dksX7_goes_4 15 rfl rfl)
theorem dX7_goes_108 : decode cX7_goes 108 = .ok (.iconst 1, 1) := dk_4 (dk_at dksX7_goes_4 16 rfl rfl)
theorem dX7_goes_109 : decode cX7_goes 109 = .ok (.iload 4, 2) := dk_21 4 (dk_at dksX7_goes_4 17 rfl rfl)
theorem dX7_goes_111 : decode cX7_goes 111 = .ok (.ishl, 1) := dk_120 (dk_at dksX7_goes_4 19 rfl rfl)
theorem dX7_goes_112 : decode cX7_goes 112 = .ok (.ior, 1) := dk_128 (dk_at dksX7_goes_4 20 rfl rfl)
theorem dX7_goes_113 : decode cX7_goes 113 = .ok (.iload_n 3, 1) := dk_29 (dk_at dksX7_goes_4 21 rfl rfl)
theorem dX7_goes_114 : decode cX7_goes 114 = .ok (.aload_n 0, 1) := dk_42 (dk_at dksX7_goes_4 22 rfl rfl)
theorem dX7_goes_115 : decode cX7_goes 115 = .ok (.getfield 3, 3) := dk_180 0 3 (dk_at dksX7_goes_5 0 rfl rfl)
theorem dX7_goes_118 : decode cX7_goes 118 = .ok (.getfield 57, 3) := dk_180 0 57 (dk_at dksX7_goes_5 3 rfl rfl)
theorem dX7_goes_121 : decode cX7_goes 121 = .ok (.iload 4, 2) := dk_21 4 (dk_at dksX7_goes_5 6 rfl rfl)
theorem dX7_goes_123 : decode cX7_goes 123 = .ok (.invokevirtual 61, 3) := dk_182 0 61 (dk_at dksX7_goes_5 8 rfl rfl)
theorem dX7_goes_126 : decode cX7_goes 126 = .ok (.getfield 67, 3) := dk_180 0 67 (dk_at dksX7_goes_5 11 rfl rfl)
theorem dX7_goes_129 : decode cX7_goes 129 = .ok (.iadd, 1) := dk_96 (dk_at dksX7_goes_5 14 rfl rfl)
theorem dX7_goes_130 : decode cX7_goes 130 = .ok (.invokevirtual 43, 3) := dk_182 0 43 (dk_at dksX7_goes_5 15 rfl rfl)
theorem dX7_goes_133 : decode cX7_goes 133 = .ok (.iinc 4 1, 3) := dk_132 4 1 (dk_at dksX7_goes_5 18 rfl rfl)
theorem dX7_goes_136 : decode cX7_goes 136 = .ok (.goto (-93), 3) := dk_167 255 163 (dk_at dksX7_goes_5 21 rfl rfl)
theorem dX7_goes_139 : decode cX7_goes 139 = .ok (.aload_n 0, 1) := dk_42 (dk_at dksX7_goes_6 0 rfl rfl)
theorem dX7_goes_140 : decode cX7_goes 140 = .ok (.getfield 19, 3) := dk_180 0 19 (dk_at dksX7_goes_6 1 rfl rfl)
theorem dX7_goes_143 : decode cX7_goes 143 = .ok (.iload_n 1, 1) := dk_27 (dk_at dksX7_goes_6 4 rfl rfl)
theorem dX7_goes_144 : decode cX7_goes 144 = .ok (.iconst (-1), 1) := dk_2 (dk_at dksX7_goes_6 5 rfl rfl)
theorem dX7_goes_145 : decode cX7_goes 145 = .ok (.iastore, 1) := dk_79 (dk_at dksX7_goes_6 6 rfl rfl)
theorem dX7_goes_146 : decode cX7_goes 146 = .ok (.aload_n 0, 1) := dk_42 (dk_at dksX7_goes_6 7 rfl rfl)
theorem dX7_goes_147 : decode cX7_goes 147 = .ok (.iload_n 1, 1) := dk_27 (dk_at dksX7_goes_6 8 rfl rfl)
theorem dX7_goes_148 : decode cX7_goes 148 = .ok (.iconst 1, 1) := dk_4 (dk_at dksX7_goes_6 9 rfl rfl)
theorem dX7_goes_149 : decode cX7_goes 149 = .ok (.iadd, 1) := dk_96 (dk_at dksX7_goes_6 10 rfl rfl)
theorem dX7_goes_150 : decode cX7_goes 150 = .ok (.iload_n 2, 1) := dk_28 (dk_at dksX7_goes_6 11 rfl rfl)
theorem dX7_goes_151 : decode cX7_goes 151 = .ok (.iload_n 3, 1) := dk_29 (dk_at dksX7_goes_6 12 rfl rfl)
theorem dX7_goes_152 : decode cX7_goes 152 = .ok (.invokevirtual 43, 3) := dk_182 0 43 (dk_at dksX7_goes_6 13 rfl rfl)
theorem dX7_goes_155 : decode cX7_goes 155 = .ok (.return_, 1) := dk_177 (dk_at dksX7_goes_6 16 rfl rfl)
def dkwX8_init_2 : List UInt8 := [187, 0, 15, 89, 183, 0, 17, 83, 89, 7, 187, 0, 15, 89, 183, 0, 17, 83, 181, 0, 18, 177]
abbrev dktX8_init_2 : List UInt8 := dkwX8_init_2 ++ []
def dkwX8_init_1 : List UInt8 := [89, 4, 187, 0, 15, 89, 183, 0, 17, 83, 89, 5, 187, 0, 15, 89, 183, 0, 17, 83, 89, 6]
abbrev dktX8_init_1 : List UInt8 := dkwX8_init_1 ++ dktX8_init_2
def dkwX8_init_0 : List UInt8 := [42, 43, 181, 0, 3, 42, 183, 0, 9, 42, 8, 189, 0, 15, 89, 3, 187, 0, 15, 89, 183, 0, 17, 83]
abbrev dktX8_init_0 : List UInt8 := dkwX8_init_0 ++ dktX8_init_1
theorem dksX8_init_0 : cX8_init.data.toList.drop 0 = dktX8_init_0 := by decide +kernel
theorem dksX8_init_1 : cX8_init.data.toList.drop 24 = dktX8_init_1 := dk_seg dksX8_init_0 24 rfl rfl
theorem dksX8_init_2 : cX8_init.data.toList.drop 46 = dktX8_init_2 := dk_seg dksX8_init_1 22 rfl rfl
theorem dX8_init_0 : decode cX8_init 0 = .ok (.aload_n 0, 1) := dk_42 (dk_at dksX8_init_0 0 rfl rfl)
theorem dX8_init_1 : decode cX8_init 1 = .ok (.aload_n 1, 1) := dk_43 (dk_at dksX8_init_0 1 rfl rfl)
theorem dX8_init_2 : decode cX8_init 2 = .ok (.putfield 3, 3) := dk_181 0 3 (dk_at dksX8_init_0 2 rfl rfl)
theorem dX8_init_5 : decode cX8_init 5 = .ok (.aload_n 0, 1) := dk_42 (dk_at dksX8_init_0 5 rfl rfl)
theorem dX8_init_6 : decode cX8_init 6 = .ok (.invokespecial 9, 3) := dk_183 0 9 (dk_at dksX8_init_0 6 rfl rfl)
theorem dX8_init_9 : decode cX8_init 9 = .ok (.aload_n 0, 1) := dk_42 (dk_at dksX8_init_0 9 rfl rfl)
theorem dX8_init_10 : decode cX8_init 10 = .ok (.iconst 5, 1) := dk_8 (dk_at dksX8_init_0 10 rfl rfl)
theorem dX8_init_11 : decode cX8_init 11 = .ok (.anewarray 15, 3) := dk_189 0 15 (dk_at dksX8_init_0 11 rfl rfl)
theorem dX8_init_14 : decode cX8_init 14 = .ok (.dup, 1) := dk_89 (dk_at dksX8_init_0 14 rfl rfl)
theorem dX8_init_15 : decode cX8_init 15 = .ok (.iconst 0, 1) := dk_3 (dk_at dksX8_init_0 15 rfl rfl)
theorem dX8_init_16 : decode cX8_init 16 = .ok (.new 15, 3) := dk_187 0 15 (dk_at dksX8_init_0 16 rfl rfl)
theorem dX8_init_19 : decode cX8_init 19 = .ok (.dup, 1) := dk_89 (dk_at dksX8_init_0 19 rfl rfl)
theorem dX8_init_20 : decode cX8_init 20 = .ok (.invokespecial 17, 3) := dk_183 0 17 (dk_at dksX8_init_0 20 rfl rfl)
theorem dX8_init_23 : decode cX8_init 23 = .ok (.aastore, 1) := dk_83 (dk_at dksX8_init_0 23 rfl rfl)
theorem dX8_init_24 : decode cX8_init 24 = .ok (.dup, 1) := dk_89 (dk_at dksX8_init_1 0 rfl rfl)
theorem dX8_init_25 : decode cX8_init 25 = .ok (.iconst 1, 1) := dk_4 (dk_at dksX8_init_1 1 rfl rfl)
theorem dX8_init_26 : decode cX8_init 26 = .ok (.new 15, 3) := dk_187 0 15 (dk_at dksX8_init_1 2 rfl rfl)
theorem dX8_init_29 : decode cX8_init 29 = .ok (.dup, 1) := dk_89 (dk_at dksX8_init_1 5 rfl rfl)
theorem dX8_init_30 : decode cX8_init 30 = .ok (.invokespecial 17, 3) := dk_183 0 17 (dk_at dksX8_init_1 6 rfl rfl)
theorem dX8_init_33 : decode cX8_init 33 = .ok (.aastore, 1) := dk_83 (dk_at dksX8_init_1 9 rfl rfl)
theorem dX8_init_34 : decode cX8_init 34 = .ok (.dup, 1) := dk_89 (dk_at dksX8_init_1 10 rfl rfl)
theorem dX8_init_35 : decode cX8_init 35 = .ok (.iconst 2, 1) := dk_5 (dk_at dksX8_init_1 11 rfl rfl)
theorem dX8_init_36 : decode cX8_init 36 = .ok (.new 15, 3) := dk_187 0 15 (dk_at dksX8_init_1 12 rfl rfl)
theorem dX8_init_39 : decode cX8_init 39 = .ok (.dup, 1) := dk_89 (dk_at dksX8_init_1 15 rfl rfl)
theorem dX8_init_40 : decode cX8_init 40 = .ok (.invokespecial 17, 3) := dk_183 0 17 (dk_at dksX8_init_1 16 rfl rfl)
theorem dX8_init_43 : decode cX8_init 43 = .ok (.aastore, 1) := dk_83 (dk_at dksX8_init_1 19 rfl rfl)
theorem dX8_init_44 : decode cX8_init 44 = .ok (.dup, 1) := dk_89 (dk_at dksX8_init_1 20 rfl rfl)
theorem dX8_init_45 : decode cX8_init 45 = .ok (.iconst 3, 1) := dk_6 (dk_at dksX8_init_1 21 rfl rfl)
theorem dX8_init_46 : decode cX8_init 46 = .ok (.new 15, 3) := dk_187 0 15 (dk_at dksX8_init_2 0 rfl rfl)
theorem dX8_init_49 : decode cX8_init 49 = .ok (.dup, 1) := dk_89 (dk_at dksX8_init_2 3 rfl rfl)
theorem dX8_init_50 : decode cX8_init 50 = .ok (.invokespecial 17, 3) := dk_183 0 17 (dk_at dksX8_init_2 4 rfl rfl)
theorem dX8_init_53 : decode cX8_init 53 = .ok (.aastore, 1) := dk_83 (dk_at dksX8_init_2 7 rfl rfl)
theorem dX8_init_54 : decode cX8_init 54 = .ok (.dup, 1) := dk_89 (dk_at dksX8_init_2 8 rfl rfl)
theorem dX8_init_55 : decode cX8_init 55 = .ok (.iconst 4, 1) := dk_7 (dk_at dksX8_init_2 9 rfl rfl)
theorem dX8_init_56 : decode cX8_init 56 = .ok (.new 15, 3) := dk_187 0 15 (dk_at dksX8_init_2 10 rfl rfl)
theorem dX8_init_59 : decode cX8_init 59 = .ok (.dup, 1) := dk_89 (dk_at dksX8_init_2 13 rfl rfl)
theorem dX8_init_60 : decode cX8_init 60 = .ok (.invokespecial 17, 3) := dk_183 0 17 (dk_at dksX8_init_2 14 rfl rfl)
theorem dX8_init_63 : decode cX8_init 63 = .ok (.aastore, 1) := dk_83 (dk_at dksX8_init_2 17 rfl rfl)
theorem dX8_init_64 : decode cX8_init 64 = .ok (.putfield 18, 3) := dk_181 0 18 (dk_at dksX8_init_2 18 rfl rfl)
theorem dX8_init_67 : decode cX8_init 67 = .ok (.return_, 1) := dk_177 (dk_at dksX8_init_2 21 rfl rfl)
def dkwX8_finds_1 : List UInt8 := [180, 0, 3, 180, 0, 32, 182, 0, 36, 87, 42, 3, 182, 0, 40, 42, 176]
abbrev dktX8_finds_1 : List UInt8 := dkwX8_finds_1 ++ []
def dkwX8_finds_0 : List UInt8 := [42, 27, 181, 0, 22, 42, 28, 181, 0, 26, 42, 3, 181, 0, 29, 42, 180, 0, 18, 3, 50, 42]
abbrev dktX8_finds_0 : List UInt8 := dkwX8_finds_0 ++ dktX8_finds_1
theorem dksX8_finds_0 : cX8_finds.data.toList.drop 0 = dktX8_finds_0 := by decide +kernel
theorem dksX8_finds_1 : cX8_finds.data.toList.drop 22 = dktX8_finds_1 := dk_seg dksX8_finds_0 22 rfl rfl
theorem dX8_finds_0 : decode cX8_finds 0 = .ok (.aload_n 0, 1) := dk_42 (dk_at dksX8_finds_0 0 rfl rfl)
theorem dX8_finds_1 : decode cX8_finds 1 = .ok (.iload_n 1, 1) := dk_27 (dk_at dksX8_finds_0 1 rfl rfl)
theorem dX8_finds_2 : decode cX8_finds 2 = .ok (.putfield 22, 3) := dk_181 0 22 (dk_at dksX8_finds_0 2 rfl rfl)
theorem dX8_finds_5 : decode cX8_finds 5 = .ok (.aload_n 0, 1) := dk_42 (dk_at dksX8_finds_0 5 rfl rfl)
theorem dX8_finds_6 : decode cX8_finds 6 = .ok (.iload_n 2, 1) := dk_28 (dk_at dksX8_finds_0 6 rfl rfl)
theorem dX8_finds_7 : decode cX8_finds 7 = .ok (.putfield 26, 3) := dk_181 0 26 (dk_at dksX8_finds_0 7 rfl rfl)
theorem dX8_finds_10 : decode cX8_finds 10 = .ok (.aload_n 0, 1) := dk_42 (dk_at dksX8_finds_0 10 rfl rfl)
theorem dX8_finds_11 : decode cX8_finds 11 = .ok (.iconst 0, 1) := dk_3 (dk_at dksX8_finds_0 11 rfl rfl)
theorem dX8_finds_12 : decode cX8_finds 12 = .ok (.putfield 29, 3) := dk_181 0 29 (dk_at dksX8_finds_0 12 rfl rfl)
theorem dX8_finds_15 : decode cX8_finds 15 = .ok (.aload_n 0, 1) := dk_42 (dk_at dksX8_finds_0 15 rfl rfl)
theorem dX8_finds_16 : decode cX8_finds 16 = .ok (.getfield 18, 3) := dk_180 0 18 (dk_at dksX8_finds_0 16 rfl rfl)
theorem dX8_finds_19 : decode cX8_finds 19 = .ok (.iconst 0, 1) := dk_3 (dk_at dksX8_finds_0 19 rfl rfl)
theorem dX8_finds_20 : decode cX8_finds 20 = .ok (.aaload, 1) := dk_50 (dk_at dksX8_finds_0 20 rfl rfl)
theorem dX8_finds_21 : decode cX8_finds 21 = .ok (.aload_n 0, 1) := dk_42 (dk_at dksX8_finds_0 21 rfl rfl)
theorem dX8_finds_22 : decode cX8_finds 22 = .ok (.getfield 3, 3) := dk_180 0 3 (dk_at dksX8_finds_1 0 rfl rfl)
theorem dX8_finds_25 : decode cX8_finds 25 = .ok (.getfield 32, 3) := dk_180 0 32 (dk_at dksX8_finds_1 3 rfl rfl)
theorem dX8_finds_28 : decode cX8_finds 28 = .ok (.invokevirtual 36, 3) := dk_182 0 36 (dk_at dksX8_finds_1 6 rfl rfl)
theorem dX8_finds_31 : decode cX8_finds 31 = .ok (.pop, 1) := dk_87 (dk_at dksX8_finds_1 9 rfl rfl)
theorem dX8_finds_32 : decode cX8_finds 32 = .ok (.aload_n 0, 1) := dk_42 (dk_at dksX8_finds_1 10 rfl rfl)
theorem dX8_finds_33 : decode cX8_finds 33 = .ok (.iconst 0, 1) := dk_3 (dk_at dksX8_finds_1 11 rfl rfl)
theorem dX8_finds_34 : decode cX8_finds 34 = .ok (.invokevirtual 40, 3) := dk_182 0 40 (dk_at dksX8_finds_1 12 rfl rfl)
theorem dX8_finds_37 : decode cX8_finds 37 = .ok (.aload_n 0, 1) := dk_42 (dk_at dksX8_finds_1 15 rfl rfl)
theorem dX8_finds_38 : decode cX8_finds 38 = .ok (.areturn, 1) := dk_176 (dk_at dksX8_finds_1 16 rfl rfl)
def dkwX8_goes_3 : List UInt8 := [4, 96, 182, 0, 40, 132, 2, 1, 167, 255, 198, 177]
abbrev dktX8_goes_3 : List UInt8 := dkwX8_goes_3 ++ []
def dkwX8_goes_2 : List UInt8 := [87, 42, 180, 0, 18, 27, 4, 96, 50, 180, 0, 48, 42, 180, 0, 22, 184, 0, 51, 154, 0, 10, 42, 27]
abbrev dktX8_goes_2 : List UInt8 := dkwX8_goes_2 ++ dktX8_goes_3
def dkwX8_goes_1 : List UInt8 := [163, 0, 59, 42, 180, 0, 18, 27, 4, 96, 50, 42, 180, 0, 18, 27, 50, 182, 0, 36, 28, 182, 0, 44]
abbrev dktX8_goes_1 : List UInt8 := dkwX8_goes_1 ++ dktX8_goes_2
def dkwX8_goes_0 : List UInt8 := [27, 42, 180, 0, 26, 160, 0, 14, 42, 89, 180, 0, 29, 4, 96, 181, 0, 29, 177, 3, 61, 28, 7]
abbrev dktX8_goes_0 : List UInt8 := dkwX8_goes_0 ++ dktX8_goes_1
theorem dksX8_goes_0 : cX8_goes.data.toList.drop 0 = dktX8_goes_0 := by decide +kernel
theorem dksX8_goes_1 : cX8_goes.data.toList.drop 23 = dktX8_goes_1 := dk_seg dksX8_goes_0 23 rfl rfl
theorem dksX8_goes_2 : cX8_goes.data.toList.drop 47 = dktX8_goes_2 := dk_seg dksX8_goes_1 24 rfl rfl
theorem dksX8_goes_3 : cX8_goes.data.toList.drop 71 = dktX8_goes_3 := dk_seg dksX8_goes_2 24 rfl rfl
theorem dX8_goes_0 : decode cX8_goes 0 = .ok (.iload_n 1, 1) := dk_27 (dk_at dksX8_goes_0 0 rfl rfl)
theorem dX8_goes_1 : decode cX8_goes 1 = .ok (.aload_n 0, 1) := dk_42 (dk_at dksX8_goes_0 1 rfl rfl)
theorem dX8_goes_2 : decode cX8_goes 2 = .ok (.getfield 26, 3) := dk_180 0 26 (dk_at dksX8_goes_0 2 rfl rfl)
theorem dX8_goes_5 : decode cX8_goes 5 = .ok (.if_icmp .ne 14, 3) := dk_160 0 14 (dk_at dksX8_goes_0 5 rfl rfl)
theorem dX8_goes_8 : decode cX8_goes 8 = .ok (.aload_n 0, 1) := dk_42 (dk_at dksX8_goes_0 8 rfl rfl)
theorem dX8_goes_9 : decode cX8_goes 9 = .ok (.dup, 1) := dk_89 (dk_at dksX8_goes_0 9 rfl rfl)
theorem dX8_goes_10 : decode cX8_goes 10 = .ok (.getfield 29, 3) := dk_180 0 29 (dk_at dksX8_goes_0 10 rfl rfl)
theorem dX8_goes_13 : decode cX8_goes 13 = .ok (.iconst 1, 1) := dk_4 (dk_at dksX8_goes_0 13 rfl rfl)
theorem dX8_goes_14 : decode cX8_goes 14 = .ok (.iadd, 1) := dk_96 (dk_at dksX8_goes_0 14 rfl rfl)
theorem dX8_goes_15 : decode cX8_goes 15 = .ok (.putfield 29, 3) := dk_181 0 29 (dk_at dksX8_goes_0 15 rfl rfl)
theorem dX8_goes_18 : decode cX8_goes 18 = .ok (.return_, 1) := dk_177 (dk_at dksX8_goes_0 18 rfl rfl)
theorem dX8_goes_19 : decode cX8_goes 19 = .ok (.iconst 0, 1) := dk_3 (dk_at dksX8_goes_0 19 rfl rfl)
theorem dX8_goes_20 : decode cX8_goes 20 = .ok (.istore_n 2, 1) := dk_61 (dk_at dksX8_goes_0 20 rfl rfl)
theorem dX8_goes_21 : decode cX8_goes 21 = .ok (.iload_n 2, 1) := dk_28 (dk_at dksX8_goes_0 21 rfl rfl)
theorem dX8_goes_22 : decode cX8_goes 22 = .ok (.iconst 4, 1) := dk_7 (dk_at dksX8_goes_0 22 rfl rfl)
theorem dX8_goes_23 : decode cX8_goes 23 = .ok (.if_icmp .gt 59, 3) := dk_163 0 59 (dk_at dksX8_goes_1 0 rfl rfl)
theorem dX8_goes_26 : decode cX8_goes 26 = .ok (.aload_n 0, 1) := dk_42 (dk_at dksX8_goes_1 3 rfl rfl)
theorem dX8_goes_27 : decode cX8_goes 27 = .ok (.getfield 18, 3) := dk_180 0 18 (dk_at dksX8_goes_1 4 rfl rfl)
theorem dX8_goes_30 : decode cX8_goes 30 = .ok (.iload_n 1, 1) := dk_27 (dk_at dksX8_goes_1 7 rfl rfl)
theorem dX8_goes_31 : decode cX8_goes 31 = .ok (.iconst 1, 1) := dk_4 (dk_at dksX8_goes_1 8 rfl rfl)
theorem dX8_goes_32 : decode cX8_goes 32 = .ok (.iadd, 1) := dk_96 (dk_at dksX8_goes_1 9 rfl rfl)
theorem dX8_goes_33 : decode cX8_goes 33 = .ok (.aaload, 1) := dk_50 (dk_at dksX8_goes_1 10 rfl rfl)
theorem dX8_goes_34 : decode cX8_goes 34 = .ok (.aload_n 0, 1) := dk_42 (dk_at dksX8_goes_1 11 rfl rfl)
theorem dX8_goes_35 : decode cX8_goes 35 = .ok (.getfield 18, 3) := dk_180 0 18 (dk_at dksX8_goes_1 12 rfl rfl)
theorem dX8_goes_38 : decode cX8_goes 38 = .ok (.iload_n 1, 1) := dk_27 (dk_at dksX8_goes_1 15 rfl rfl)
theorem dX8_goes_39 : decode cX8_goes 39 = .ok (.aaload, 1) := dk_50 (dk_at dksX8_goes_1 16 rfl rfl)
theorem dX8_goes_40 : decode cX8_goes 40 = .ok (.invokevirtual 36, 3) := dk_182 0 36 (dk_at dksX8_goes_1 17 rfl rfl)
theorem dX8_goes_43 : decode cX8_goes 43 = .ok (.iload_n 2, 1) := dk_28 (dk_at dksX8_goes_1 20 rfl rfl)
theorem dX8_goes_44 : decode cX8_goes 44 = .ok (.invokevirtual 44, 3) := dk_182 0 44 (dk_at dksX8_goes_1 21 rfl rfl)
theorem dX8_goes_47 : decode cX8_goes 47 = .ok (.pop, 1) := dk_87 (dk_at dksX8_goes_2 0 rfl rfl)
theorem dX8_goes_48 : decode cX8_goes 48 = .ok (.aload_n 0, 1) := dk_42 (dk_at dksX8_goes_2 1 rfl rfl)
theorem dX8_goes_49 : decode cX8_goes 49 = .ok (.getfield 18, 3) := dk_180 0 18 (dk_at dksX8_goes_2 2 rfl rfl)
theorem dX8_goes_52 : decode cX8_goes 52 = .ok (.iload_n 1, 1) := dk_27 (dk_at dksX8_goes_2 5 rfl rfl)
theorem dX8_goes_53 : decode cX8_goes 53 = .ok (.iconst 1, 1) := dk_4 (dk_at dksX8_goes_2 6 rfl rfl)
theorem dX8_goes_54 : decode cX8_goes 54 = .ok (.iadd, 1) := dk_96 (dk_at dksX8_goes_2 7 rfl rfl)
theorem dX8_goes_55 : decode cX8_goes 55 = .ok (.aaload, 1) := dk_50 (dk_at dksX8_goes_2 8 rfl rfl)
theorem dX8_goes_56 : decode cX8_goes 56 = .ok (.getfield 48, 3) := dk_180 0 48 (dk_at dksX8_goes_2 9 rfl rfl)
theorem dX8_goes_59 : decode cX8_goes 59 = .ok (.aload_n 0, 1) := dk_42 (dk_at dksX8_goes_2 12 rfl rfl)
theorem dX8_goes_60 : decode cX8_goes 60 = .ok (.getfield 22, 3) := dk_180 0 22 (dk_at dksX8_goes_2 13 rfl rfl)
theorem dX8_goes_63 : decode cX8_goes 63 = .ok (.invokestatic 51, 3) := dk_184 0 51 (dk_at dksX8_goes_2 16 rfl rfl)
theorem dX8_goes_66 : decode cX8_goes 66 = .ok (.ifCond .ne 10, 3) := dk_154 0 10 (dk_at dksX8_goes_2 19 rfl rfl)
theorem dX8_goes_69 : decode cX8_goes 69 = .ok (.aload_n 0, 1) := dk_42 (dk_at dksX8_goes_2 22 rfl rfl)
theorem dX8_goes_70 : decode cX8_goes 70 = .ok (.iload_n 1, 1) := dk_27 (dk_at dksX8_goes_2 23 rfl rfl)
theorem dX8_goes_71 : decode cX8_goes 71 = .ok (.iconst 1, 1) := dk_4 (dk_at dksX8_goes_3 0 rfl rfl)
theorem dX8_goes_72 : decode cX8_goes 72 = .ok (.iadd, 1) := dk_96 (dk_at dksX8_goes_3 1 rfl rfl)
theorem dX8_goes_73 : decode cX8_goes 73 = .ok (.invokevirtual 40, 3) := dk_182 0 40 (dk_at dksX8_goes_3 2 rfl rfl)
theorem dX8_goes_76 : decode cX8_goes 76 = .ok (.iinc 2 1, 3) := dk_132 2 1 (dk_at dksX8_goes_3 5 rfl rfl)
theorem dX8_goes_79 : decode cX8_goes 79 = .ok (.goto (-58), 3) := dk_167 255 198 (dk_at dksX8_goes_3 8 rfl rfl)
theorem dX8_goes_82 : decode cX8_goes 82 = .ok (.return_, 1) := dk_177 (dk_at dksX8_goes_3 11 rfl rfl)
def dkwX10_init_0 : List UInt8 := [42, 183, 0, 1, 42, 27, 181, 0, 7, 177]
abbrev dktX10_init_0 : List UInt8 := dkwX10_init_0 ++ []
theorem dksX10_init_0 : cX10_init.data.toList.drop 0 = dktX10_init_0 := by decide +kernel
theorem dX10_init_0 : decode cX10_init 0 = .ok (.aload_n 0, 1) := dk_42 (dk_at dksX10_init_0 0 rfl rfl)
theorem dX10_init_1 : decode cX10_init 1 = .ok (.invokespecial 1, 3) := dk_183 0 1 (dk_at dksX10_init_0 1 rfl rfl)
theorem dX10_init_4 : decode cX10_init 4 = .ok (.aload_n 0, 1) := dk_42 (dk_at dksX10_init_0 4 rfl rfl)
theorem dX10_init_5 : decode cX10_init 5 = .ok (.iload_n 1, 1) := dk_27 (dk_at dksX10_init_0 5 rfl rfl)
theorem dX10_init_6 : decode cX10_init 6 = .ok (.putfield 7, 3) := dk_181 0 7 (dk_at dksX10_init_0 6 rfl rfl)
theorem dX10_init_9 : decode cX10_init 9 = .ok (.return_, 1) := dk_177 (dk_at dksX10_init_0 9 rfl rfl)
def dkwX11_init_1 : List UInt8 := [181, 0, 19, 177]
abbrev dktX11_init_1 : List UInt8 := dkwX11_init_1 ++ []
def dkwX11_init_0 : List UInt8 := [42, 183, 0, 1, 42, 27, 181, 0, 7, 42, 28, 181, 0, 13, 42, 29, 181, 0, 16, 42, 25, 4]
abbrev dktX11_init_0 : List UInt8 := dkwX11_init_0 ++ dktX11_init_1
theorem dksX11_init_0 : cX11_init.data.toList.drop 0 = dktX11_init_0 := by decide +kernel
theorem dksX11_init_1 : cX11_init.data.toList.drop 22 = dktX11_init_1 := dk_seg dksX11_init_0 22 rfl rfl
theorem dX11_init_0 : decode cX11_init 0 = .ok (.aload_n 0, 1) := dk_42 (dk_at dksX11_init_0 0 rfl rfl)
theorem dX11_init_1 : decode cX11_init 1 = .ok (.invokespecial 1, 3) := dk_183 0 1 (dk_at dksX11_init_0 1 rfl rfl)
theorem dX11_init_4 : decode cX11_init 4 = .ok (.aload_n 0, 1) := dk_42 (dk_at dksX11_init_0 4 rfl rfl)
theorem dX11_init_5 : decode cX11_init 5 = .ok (.iload_n 1, 1) := dk_27 (dk_at dksX11_init_0 5 rfl rfl)
theorem dX11_init_6 : decode cX11_init 6 = .ok (.putfield 7, 3) := dk_181 0 7 (dk_at dksX11_init_0 6 rfl rfl)
theorem dX11_init_9 : decode cX11_init 9 = .ok (.aload_n 0, 1) := dk_42 (dk_at dksX11_init_0 9 rfl rfl)
theorem dX11_init_10 : decode cX11_init 10 = .ok (.iload_n 2, 1) := dk_28 (dk_at dksX11_init_0 10 rfl rfl)
theorem dX11_init_11 : decode cX11_init 11 = .ok (.putfield 13, 3) := dk_181 0 13 (dk_at dksX11_init_0 11 rfl rfl)
theorem dX11_init_14 : decode cX11_init 14 = .ok (.aload_n 0, 1) := dk_42 (dk_at dksX11_init_0 14 rfl rfl)
theorem dX11_init_15 : decode cX11_init 15 = .ok (.iload_n 3, 1) := dk_29 (dk_at dksX11_init_0 15 rfl rfl)
theorem dX11_init_16 : decode cX11_init 16 = .ok (.putfield 16, 3) := dk_181 0 16 (dk_at dksX11_init_0 16 rfl rfl)
theorem dX11_init_19 : decode cX11_init 19 = .ok (.aload_n 0, 1) := dk_42 (dk_at dksX11_init_0 19 rfl rfl)
theorem dX11_init_20 : decode cX11_init 20 = .ok (.aload 4, 2) := dk_25 4 (dk_at dksX11_init_0 20 rfl rfl)
theorem dX11_init_22 : decode cX11_init 22 = .ok (.putfield 19, 3) := dk_181 0 19 (dk_at dksX11_init_1 0 rfl rfl)
theorem dX11_init_25 : decode cX11_init 25 = .ok (.return_, 1) := dk_177 (dk_at dksX11_init_1 3 rfl rfl)
theorem dX11_kind_0 : decode cX11_kind 0 = .ok (.iconst 0, 1) := by decide +kernel
theorem dX11_kind_1 : decode cX11_kind 1 = .ok (.ireturn, 1) := by decide +kernel
def dkwX11_way_0 : List UInt8 := [42, 180, 0, 19, 27, 42, 180, 0, 19, 190, 112, 46, 172]
abbrev dktX11_way_0 : List UInt8 := dkwX11_way_0 ++ []
theorem dksX11_way_0 : cX11_way.data.toList.drop 0 = dktX11_way_0 := by decide +kernel
theorem dX11_way_0 : decode cX11_way 0 = .ok (.aload_n 0, 1) := dk_42 (dk_at dksX11_way_0 0 rfl rfl)
theorem dX11_way_1 : decode cX11_way 1 = .ok (.getfield 19, 3) := dk_180 0 19 (dk_at dksX11_way_0 1 rfl rfl)
theorem dX11_way_4 : decode cX11_way 4 = .ok (.iload_n 1, 1) := dk_27 (dk_at dksX11_way_0 4 rfl rfl)
theorem dX11_way_5 : decode cX11_way 5 = .ok (.aload_n 0, 1) := dk_42 (dk_at dksX11_way_0 5 rfl rfl)
theorem dX11_way_6 : decode cX11_way 6 = .ok (.getfield 19, 3) := dk_180 0 19 (dk_at dksX11_way_0 6 rfl rfl)
theorem dX11_way_9 : decode cX11_way 9 = .ok (.arraylength, 1) := dk_190 (dk_at dksX11_way_0 9 rfl rfl)
theorem dX11_way_10 : decode cX11_way 10 = .ok (.irem, 1) := dk_112 (dk_at dksX11_way_0 10 rfl rfl)
theorem dX11_way_11 : decode cX11_way 11 = .ok (.iaload, 1) := dk_46 (dk_at dksX11_way_0 11 rfl rfl)
theorem dX11_way_12 : decode cX11_way 12 = .ok (.ireturn, 1) := dk_172 (dk_at dksX11_way_0 12 rfl rfl)
def dkwX11_walks_0 : List UInt8 := [43, 28, 42, 29, 182, 0, 23, 182, 0, 27, 172]
abbrev dktX11_walks_0 : List UInt8 := dkwX11_walks_0 ++ []
theorem dksX11_walks_0 : cX11_walks.data.toList.drop 0 = dktX11_walks_0 := by decide +kernel
theorem dX11_walks_0 : decode cX11_walks 0 = .ok (.aload_n 1, 1) := dk_43 (dk_at dksX11_walks_0 0 rfl rfl)
theorem dX11_walks_1 : decode cX11_walks 1 = .ok (.iload_n 2, 1) := dk_28 (dk_at dksX11_walks_0 1 rfl rfl)
theorem dX11_walks_2 : decode cX11_walks 2 = .ok (.aload_n 0, 1) := dk_42 (dk_at dksX11_walks_0 2 rfl rfl)
theorem dX11_walks_3 : decode cX11_walks 3 = .ok (.iload_n 3, 1) := dk_29 (dk_at dksX11_walks_0 3 rfl rfl)
theorem dX11_walks_4 : decode cX11_walks 4 = .ok (.invokevirtual 23, 3) := dk_182 0 23 (dk_at dksX11_walks_0 4 rfl rfl)
theorem dX11_walks_7 : decode cX11_walks 7 = .ok (.invokevirtual 27, 3) := dk_182 0 27 (dk_at dksX11_walks_0 7 rfl rfl)
theorem dX11_walks_10 : decode cX11_walks 10 = .ok (.ireturn, 1) := dk_172 (dk_at dksX11_walks_0 10 rfl rfl)
theorem dX11_listens_0 : decode cX11_listens 0 = .ok (.iconst 1, 1) := by decide +kernel
theorem dX11_listens_1 : decode cX11_listens 1 = .ok (.ireturn, 1) := by decide +kernel
theorem dX11_leaps_0 : decode cX11_leaps 0 = .ok (.iconst 0, 1) := by decide +kernel
theorem dX11_leaps_1 : decode cX11_leaps 1 = .ok (.ireturn, 1) := by decide +kernel
def dkwX12_init_0 : List UInt8 := [42, 27, 28, 29, 25, 4, 183, 0, 1, 177]
abbrev dktX12_init_0 : List UInt8 := dkwX12_init_0 ++ []
theorem dksX12_init_0 : cX12_init.data.toList.drop 0 = dktX12_init_0 := by decide +kernel
theorem dX12_init_0 : decode cX12_init 0 = .ok (.aload_n 0, 1) := dk_42 (dk_at dksX12_init_0 0 rfl rfl)
theorem dX12_init_1 : decode cX12_init 1 = .ok (.iload_n 1, 1) := dk_27 (dk_at dksX12_init_0 1 rfl rfl)
theorem dX12_init_2 : decode cX12_init 2 = .ok (.iload_n 2, 1) := dk_28 (dk_at dksX12_init_0 2 rfl rfl)
theorem dX12_init_3 : decode cX12_init 3 = .ok (.iload_n 3, 1) := dk_29 (dk_at dksX12_init_0 3 rfl rfl)
theorem dX12_init_4 : decode cX12_init 4 = .ok (.aload 4, 2) := dk_25 4 (dk_at dksX12_init_0 4 rfl rfl)
theorem dX12_init_6 : decode cX12_init 6 = .ok (.invokespecial 1, 3) := dk_183 0 1 (dk_at dksX12_init_0 6 rfl rfl)
theorem dX12_init_9 : decode cX12_init 9 = .ok (.return_, 1) := dk_177 (dk_at dksX12_init_0 9 rfl rfl)
theorem dX12_kind_0 : decode cX12_kind 0 = .ok (.iconst 1, 1) := by decide +kernel
theorem dX12_kind_1 : decode cX12_kind 1 = .ok (.ireturn, 1) := by decide +kernel
def dkwX12_walks_0 : List UInt8 := [43, 43, 28, 42, 29, 182, 0, 7, 182, 0, 13, 42, 29, 182, 0, 7, 182, 0, 13, 172]
abbrev dktX12_walks_0 : List UInt8 := dkwX12_walks_0 ++ []
theorem dksX12_walks_0 : cX12_walks.data.toList.drop 0 = dktX12_walks_0 := by decide +kernel
theorem dX12_walks_0 : decode cX12_walks 0 = .ok (.aload_n 1, 1) := dk_43 (dk_at dksX12_walks_0 0 rfl rfl)
theorem dX12_walks_1 : decode cX12_walks 1 = .ok (.aload_n 1, 1) := dk_43 (dk_at dksX12_walks_0 1 rfl rfl)
theorem dX12_walks_2 : decode cX12_walks 2 = .ok (.iload_n 2, 1) := dk_28 (dk_at dksX12_walks_0 2 rfl rfl)
theorem dX12_walks_3 : decode cX12_walks 3 = .ok (.aload_n 0, 1) := dk_42 (dk_at dksX12_walks_0 3 rfl rfl)
theorem dX12_walks_4 : decode cX12_walks 4 = .ok (.iload_n 3, 1) := dk_29 (dk_at dksX12_walks_0 4 rfl rfl)
theorem dX12_walks_5 : decode cX12_walks 5 = .ok (.invokevirtual 7, 3) := dk_182 0 7 (dk_at dksX12_walks_0 5 rfl rfl)
theorem dX12_walks_8 : decode cX12_walks 8 = .ok (.invokevirtual 13, 3) := dk_182 0 13 (dk_at dksX12_walks_0 8 rfl rfl)
theorem dX12_walks_11 : decode cX12_walks 11 = .ok (.aload_n 0, 1) := dk_42 (dk_at dksX12_walks_0 11 rfl rfl)
theorem dX12_walks_12 : decode cX12_walks 12 = .ok (.iload_n 3, 1) := dk_29 (dk_at dksX12_walks_0 12 rfl rfl)
theorem dX12_walks_13 : decode cX12_walks 13 = .ok (.invokevirtual 7, 3) := dk_182 0 7 (dk_at dksX12_walks_0 13 rfl rfl)
theorem dX12_walks_16 : decode cX12_walks 16 = .ok (.invokevirtual 13, 3) := dk_182 0 13 (dk_at dksX12_walks_0 16 rfl rfl)
theorem dX12_walks_19 : decode cX12_walks 19 = .ok (.ireturn, 1) := dk_172 (dk_at dksX12_walks_0 19 rfl rfl)
def dkwX13_init_0 : List UInt8 := [42, 27, 28, 29, 25, 4, 183, 0, 1, 177]
abbrev dktX13_init_0 : List UInt8 := dkwX13_init_0 ++ []
theorem dksX13_init_0 : cX13_init.data.toList.drop 0 = dktX13_init_0 := by decide +kernel
theorem dX13_init_0 : decode cX13_init 0 = .ok (.aload_n 0, 1) := dk_42 (dk_at dksX13_init_0 0 rfl rfl)
theorem dX13_init_1 : decode cX13_init 1 = .ok (.iload_n 1, 1) := dk_27 (dk_at dksX13_init_0 1 rfl rfl)
theorem dX13_init_2 : decode cX13_init 2 = .ok (.iload_n 2, 1) := dk_28 (dk_at dksX13_init_0 2 rfl rfl)
theorem dX13_init_3 : decode cX13_init 3 = .ok (.iload_n 3, 1) := dk_29 (dk_at dksX13_init_0 3 rfl rfl)
theorem dX13_init_4 : decode cX13_init 4 = .ok (.aload 4, 2) := dk_25 4 (dk_at dksX13_init_0 4 rfl rfl)
theorem dX13_init_6 : decode cX13_init 6 = .ok (.invokespecial 1, 3) := dk_183 0 1 (dk_at dksX13_init_0 6 rfl rfl)
theorem dX13_init_9 : decode cX13_init 9 = .ok (.return_, 1) := dk_177 (dk_at dksX13_init_0 9 rfl rfl)
theorem dX13_kind_0 : decode cX13_kind 0 = .ok (.iconst 2, 1) := by decide +kernel
theorem dX13_kind_1 : decode cX13_kind 1 = .ok (.ireturn, 1) := by decide +kernel
theorem dX13_leaps_0 : decode cX13_leaps 0 = .ok (.iconst 1, 1) := by decide +kernel
theorem dX13_leaps_1 : decode cX13_leaps 1 = .ok (.ireturn, 1) := by decide +kernel
def dkwX14_init_0 : List UInt8 := [42, 27, 28, 29, 25, 4, 183, 0, 1, 177]
abbrev dktX14_init_0 : List UInt8 := dkwX14_init_0 ++ []
theorem dksX14_init_0 : cX14_init.data.toList.drop 0 = dktX14_init_0 := by decide +kernel
theorem dX14_init_0 : decode cX14_init 0 = .ok (.aload_n 0, 1) := dk_42 (dk_at dksX14_init_0 0 rfl rfl)
theorem dX14_init_1 : decode cX14_init 1 = .ok (.iload_n 1, 1) := dk_27 (dk_at dksX14_init_0 1 rfl rfl)
theorem dX14_init_2 : decode cX14_init 2 = .ok (.iload_n 2, 1) := dk_28 (dk_at dksX14_init_0 2 rfl rfl)
theorem dX14_init_3 : decode cX14_init 3 = .ok (.iload_n 3, 1) := dk_29 (dk_at dksX14_init_0 3 rfl rfl)
theorem dX14_init_4 : decode cX14_init 4 = .ok (.aload 4, 2) := dk_25 4 (dk_at dksX14_init_0 4 rfl rfl)
theorem dX14_init_6 : decode cX14_init 6 = .ok (.invokespecial 1, 3) := dk_183 0 1 (dk_at dksX14_init_0 6 rfl rfl)
theorem dX14_init_9 : decode cX14_init 9 = .ok (.return_, 1) := dk_177 (dk_at dksX14_init_0 9 rfl rfl)
theorem dX14_kind_0 : decode cX14_kind 0 = .ok (.iconst 3, 1) := by decide +kernel
theorem dX14_kind_1 : decode cX14_kind 1 = .ok (.ireturn, 1) := by decide +kernel
theorem dX14_listens_0 : decode cX14_listens 0 = .ok (.iload_n 1, 1) := by decide +kernel
theorem dX14_listens_1 : decode cX14_listens 1 = .ok (.ireturn, 1) := by decide +kernel
theorem dX15_init_0 : decode cX15_init 0 = .ok (.aload_n 0, 1) := by decide +kernel
theorem dX15_init_1 : decode cX15_init 1 = .ok (.invokespecial 1, 3) := by decide +kernel
theorem dX15_init_4 : decode cX15_init 4 = .ok (.return_, 1) := by decide +kernel
def dkwX16_init_0 : List UInt8 := [42, 183, 0, 1, 42, 27, 181, 0, 7, 177]
abbrev dktX16_init_0 : List UInt8 := dkwX16_init_0 ++ []
theorem dksX16_init_0 : cX16_init.data.toList.drop 0 = dktX16_init_0 := by decide +kernel
theorem dX16_init_0 : decode cX16_init 0 = .ok (.aload_n 0, 1) := dk_42 (dk_at dksX16_init_0 0 rfl rfl)
theorem dX16_init_1 : decode cX16_init 1 = .ok (.invokespecial 1, 3) := dk_183 0 1 (dk_at dksX16_init_0 1 rfl rfl)
theorem dX16_init_4 : decode cX16_init 4 = .ok (.aload_n 0, 1) := dk_42 (dk_at dksX16_init_0 4 rfl rfl)
theorem dX16_init_5 : decode cX16_init 5 = .ok (.iload_n 1, 1) := dk_27 (dk_at dksX16_init_0 5 rfl rfl)
theorem dX16_init_6 : decode cX16_init 6 = .ok (.putfield 7, 3) := dk_181 0 7 (dk_at dksX16_init_0 6 rfl rfl)
theorem dX16_init_9 : decode cX16_init 9 = .ok (.return_, 1) := dk_177 (dk_at dksX16_init_0 9 rfl rfl)
def dkwX16_of_0 : List UInt8 := [43, 180, 0, 13, 42, 180, 0, 7, 46, 172]
abbrev dktX16_of_0 : List UInt8 := dkwX16_of_0 ++ []
theorem dksX16_of_0 : cX16_of.data.toList.drop 0 = dktX16_of_0 := by decide +kernel
theorem dX16_of_0 : decode cX16_of 0 = .ok (.aload_n 1, 1) := dk_43 (dk_at dksX16_of_0 0 rfl rfl)
theorem dX16_of_1 : decode cX16_of 1 = .ok (.getfield 13, 3) := dk_180 0 13 (dk_at dksX16_of_0 1 rfl rfl)
theorem dX16_of_4 : decode cX16_of 4 = .ok (.aload_n 0, 1) := dk_42 (dk_at dksX16_of_0 4 rfl rfl)
theorem dX16_of_5 : decode cX16_of 5 = .ok (.getfield 7, 3) := dk_180 0 7 (dk_at dksX16_of_0 5 rfl rfl)
theorem dX16_of_8 : decode cX16_of 8 = .ok (.iaload, 1) := dk_46 (dk_at dksX16_of_0 8 rfl rfl)
theorem dX16_of_9 : decode cX16_of 9 = .ok (.ireturn, 1) := dk_172 (dk_at dksX16_of_0 9 rfl rfl)
def dkwX17_init_0 : List UInt8 := [42, 183, 0, 1, 42, 27, 181, 0, 7, 177]
abbrev dktX17_init_0 : List UInt8 := dkwX17_init_0 ++ []
theorem dksX17_init_0 : cX17_init.data.toList.drop 0 = dktX17_init_0 := by decide +kernel
theorem dX17_init_0 : decode cX17_init 0 = .ok (.aload_n 0, 1) := dk_42 (dk_at dksX17_init_0 0 rfl rfl)
theorem dX17_init_1 : decode cX17_init 1 = .ok (.invokespecial 1, 3) := dk_183 0 1 (dk_at dksX17_init_0 1 rfl rfl)
theorem dX17_init_4 : decode cX17_init 4 = .ok (.aload_n 0, 1) := dk_42 (dk_at dksX17_init_0 4 rfl rfl)
theorem dX17_init_5 : decode cX17_init 5 = .ok (.iload_n 1, 1) := dk_27 (dk_at dksX17_init_0 5 rfl rfl)
theorem dX17_init_6 : decode cX17_init 6 = .ok (.putfield 7, 3) := dk_181 0 7 (dk_at dksX17_init_0 6 rfl rfl)
theorem dX17_init_9 : decode cX17_init 9 = .ok (.return_, 1) := dk_177 (dk_at dksX17_init_0 9 rfl rfl)
theorem dX17_of_0 : decode cX17_of 0 = .ok (.aload_n 0, 1) := by decide +kernel
theorem dX17_of_1 : decode cX17_of 1 = .ok (.getfield 7, 3) := by decide +kernel
theorem dX17_of_4 : decode cX17_of 4 = .ok (.ireturn, 1) := by decide +kernel
def dkwX18_init_0 : List UInt8 := [42, 183, 0, 1, 42, 43, 181, 0, 7, 177]
abbrev dktX18_init_0 : List UInt8 := dkwX18_init_0 ++ []
theorem dksX18_init_0 : cX18_init.data.toList.drop 0 = dktX18_init_0 := by decide +kernel
theorem dX18_init_0 : decode cX18_init 0 = .ok (.aload_n 0, 1) := dk_42 (dk_at dksX18_init_0 0 rfl rfl)
theorem dX18_init_1 : decode cX18_init 1 = .ok (.invokespecial 1, 3) := dk_183 0 1 (dk_at dksX18_init_0 1 rfl rfl)
theorem dX18_init_4 : decode cX18_init 4 = .ok (.aload_n 0, 1) := dk_42 (dk_at dksX18_init_0 4 rfl rfl)
theorem dX18_init_5 : decode cX18_init 5 = .ok (.aload_n 1, 1) := dk_43 (dk_at dksX18_init_0 5 rfl rfl)
theorem dX18_init_6 : decode cX18_init 6 = .ok (.putfield 7, 3) := dk_181 0 7 (dk_at dksX18_init_0 6 rfl rfl)
theorem dX18_init_9 : decode cX18_init 9 = .ok (.return_, 1) := dk_177 (dk_at dksX18_init_0 9 rfl rfl)
def dkwX18_of_0 : List UInt8 := [42, 180, 0, 7, 43, 182, 0, 13, 154, 0, 7, 4, 167, 0, 4, 3, 172]
abbrev dktX18_of_0 : List UInt8 := dkwX18_of_0 ++ []
theorem dksX18_of_0 : cX18_of.data.toList.drop 0 = dktX18_of_0 := by decide +kernel
theorem dX18_of_0 : decode cX18_of 0 = .ok (.aload_n 0, 1) := dk_42 (dk_at dksX18_of_0 0 rfl rfl)
theorem dX18_of_1 : decode cX18_of 1 = .ok (.getfield 7, 3) := dk_180 0 7 (dk_at dksX18_of_0 1 rfl rfl)
theorem dX18_of_4 : decode cX18_of 4 = .ok (.aload_n 1, 1) := dk_43 (dk_at dksX18_of_0 4 rfl rfl)
theorem dX18_of_5 : decode cX18_of 5 = .ok (.invokevirtual 13, 3) := dk_182 0 13 (dk_at dksX18_of_0 5 rfl rfl)
theorem dX18_of_8 : decode cX18_of 8 = .ok (.ifCond .ne 7, 3) := dk_154 0 7 (dk_at dksX18_of_0 8 rfl rfl)
theorem dX18_of_11 : decode cX18_of 11 = .ok (.iconst 1, 1) := dk_4 (dk_at dksX18_of_0 11 rfl rfl)
theorem dX18_of_12 : decode cX18_of 12 = .ok (.goto 4, 3) := dk_167 0 4 (dk_at dksX18_of_0 12 rfl rfl)
theorem dX18_of_15 : decode cX18_of 15 = .ok (.iconst 0, 1) := dk_3 (dk_at dksX18_of_0 15 rfl rfl)
theorem dX18_of_16 : decode cX18_of 16 = .ok (.ireturn, 1) := dk_172 (dk_at dksX18_of_0 16 rfl rfl)
def dkwX19_init_0 : List UInt8 := [42, 183, 0, 1, 42, 187, 0, 7, 89, 4, 183, 0, 9, 181, 0, 12, 42, 43, 181, 0, 18, 177]
abbrev dktX19_init_0 : List UInt8 := dkwX19_init_0 ++ []
theorem dksX19_init_0 : cX19_init.data.toList.drop 0 = dktX19_init_0 := by decide +kernel
theorem dX19_init_0 : decode cX19_init 0 = .ok (.aload_n 0, 1) := dk_42 (dk_at dksX19_init_0 0 rfl rfl)
theorem dX19_init_1 : decode cX19_init 1 = .ok (.invokespecial 1, 3) := dk_183 0 1 (dk_at dksX19_init_0 1 rfl rfl)
theorem dX19_init_4 : decode cX19_init 4 = .ok (.aload_n 0, 1) := dk_42 (dk_at dksX19_init_0 4 rfl rfl)
theorem dX19_init_5 : decode cX19_init 5 = .ok (.new 7, 3) := dk_187 0 7 (dk_at dksX19_init_0 5 rfl rfl)
theorem dX19_init_8 : decode cX19_init 8 = .ok (.dup, 1) := dk_89 (dk_at dksX19_init_0 8 rfl rfl)
theorem dX19_init_9 : decode cX19_init 9 = .ok (.iconst 1, 1) := dk_4 (dk_at dksX19_init_0 9 rfl rfl)
theorem dX19_init_10 : decode cX19_init 10 = .ok (.invokespecial 9, 3) := dk_183 0 9 (dk_at dksX19_init_0 10 rfl rfl)
theorem dX19_init_13 : decode cX19_init 13 = .ok (.putfield 12, 3) := dk_181 0 12 (dk_at dksX19_init_0 13 rfl rfl)
theorem dX19_init_16 : decode cX19_init 16 = .ok (.aload_n 0, 1) := dk_42 (dk_at dksX19_init_0 16 rfl rfl)
theorem dX19_init_17 : decode cX19_init 17 = .ok (.aload_n 1, 1) := dk_43 (dk_at dksX19_init_0 17 rfl rfl)
theorem dX19_init_18 : decode cX19_init 18 = .ok (.putfield 18, 3) := dk_181 0 18 (dk_at dksX19_init_0 18 rfl rfl)
theorem dX19_init_21 : decode cX19_init 21 = .ok (.return_, 1) := dk_177 (dk_at dksX19_init_0 21 rfl rfl)
def dkwX19_of_1 : List UInt8 := [180, 0, 12, 29, 182, 0, 30, 192, 0, 34, 28, 43, 182, 0, 36, 61, 132, 3, 1, 167, 255, 225, 28, 172]
abbrev dktX19_of_1 : List UInt8 := dkwX19_of_1 ++ []
def dkwX19_of_0 : List UInt8 := [42, 180, 0, 18, 43, 182, 0, 22, 61, 3, 62, 29, 42, 180, 0, 12, 182, 0, 26, 162, 0, 26, 42]
abbrev dktX19_of_0 : List UInt8 := dkwX19_of_0 ++ dktX19_of_1
theorem dksX19_of_0 : cX19_of.data.toList.drop 0 = dktX19_of_0 := by decide +kernel
theorem dksX19_of_1 : cX19_of.data.toList.drop 23 = dktX19_of_1 := dk_seg dksX19_of_0 23 rfl rfl
theorem dX19_of_0 : decode cX19_of 0 = .ok (.aload_n 0, 1) := dk_42 (dk_at dksX19_of_0 0 rfl rfl)
theorem dX19_of_1 : decode cX19_of 1 = .ok (.getfield 18, 3) := dk_180 0 18 (dk_at dksX19_of_0 1 rfl rfl)
theorem dX19_of_4 : decode cX19_of 4 = .ok (.aload_n 1, 1) := dk_43 (dk_at dksX19_of_0 4 rfl rfl)
theorem dX19_of_5 : decode cX19_of 5 = .ok (.invokevirtual 22, 3) := dk_182 0 22 (dk_at dksX19_of_0 5 rfl rfl)
theorem dX19_of_8 : decode cX19_of 8 = .ok (.istore_n 2, 1) := dk_61 (dk_at dksX19_of_0 8 rfl rfl)
theorem dX19_of_9 : decode cX19_of 9 = .ok (.iconst 0, 1) := dk_3 (dk_at dksX19_of_0 9 rfl rfl)
theorem dX19_of_10 : decode cX19_of 10 = .ok (.istore_n 3, 1) := dk_62 (dk_at dksX19_of_0 10 rfl rfl)
theorem dX19_of_11 : decode cX19_of 11 = .ok (.iload_n 3, 1) := dk_29 (dk_at dksX19_of_0 11 rfl rfl)
theorem dX19_of_12 : decode cX19_of 12 = .ok (.aload_n 0, 1) := dk_42 (dk_at dksX19_of_0 12 rfl rfl)
theorem dX19_of_13 : decode cX19_of 13 = .ok (.getfield 12, 3) := dk_180 0 12 (dk_at dksX19_of_0 13 rfl rfl)
theorem dX19_of_16 : decode cX19_of 16 = .ok (.invokevirtual 26, 3) := dk_182 0 26 (dk_at dksX19_of_0 16 rfl rfl)
theorem dX19_of_19 : decode cX19_of 19 = .ok (.if_icmp .ge 26, 3) := dk_162 0 26 (dk_at dksX19_of_0 19 rfl rfl)
theorem dX19_of_22 : decode cX19_of 22 = .ok (.aload_n 0, 1) := dk_42 (dk_at dksX19_of_0 22 rfl rfl)
theorem dX19_of_23 : decode cX19_of 23 = .ok (.getfield 12, 3) := dk_180 0 12 (dk_at dksX19_of_1 0 rfl rfl)
theorem dX19_of_26 : decode cX19_of 26 = .ok (.iload_n 3, 1) := dk_29 (dk_at dksX19_of_1 3 rfl rfl)
theorem dX19_of_27 : decode cX19_of 27 = .ok (.invokevirtual 30, 3) := dk_182 0 30 (dk_at dksX19_of_1 4 rfl rfl)
theorem dX19_of_30 : decode cX19_of 30 = .ok (.checkcast 34, 3) := dk_192 0 34 (dk_at dksX19_of_1 7 rfl rfl)
theorem dX19_of_33 : decode cX19_of 33 = .ok (.iload_n 2, 1) := dk_28 (dk_at dksX19_of_1 10 rfl rfl)
theorem dX19_of_34 : decode cX19_of 34 = .ok (.aload_n 1, 1) := dk_43 (dk_at dksX19_of_1 11 rfl rfl)
theorem dX19_of_35 : decode cX19_of 35 = .ok (.invokevirtual 36, 3) := dk_182 0 36 (dk_at dksX19_of_1 12 rfl rfl)
theorem dX19_of_38 : decode cX19_of 38 = .ok (.istore_n 2, 1) := dk_61 (dk_at dksX19_of_1 15 rfl rfl)
theorem dX19_of_39 : decode cX19_of 39 = .ok (.iinc 3 1, 3) := dk_132 3 1 (dk_at dksX19_of_1 16 rfl rfl)
theorem dX19_of_42 : decode cX19_of 42 = .ok (.goto (-31), 3) := dk_167 255 225 (dk_at dksX19_of_1 19 rfl rfl)
theorem dX19_of_45 : decode cX19_of 45 = .ok (.iload_n 2, 1) := dk_28 (dk_at dksX19_of_1 22 rfl rfl)
theorem dX19_of_46 : decode cX19_of 46 = .ok (.ireturn, 1) := dk_172 (dk_at dksX19_of_1 23 rfl rfl)
def dkwX20_init_0 : List UInt8 := [42, 183, 0, 1, 42, 43, 181, 0, 7, 177]
abbrev dktX20_init_0 : List UInt8 := dkwX20_init_0 ++ []
theorem dksX20_init_0 : cX20_init.data.toList.drop 0 = dktX20_init_0 := by decide +kernel
theorem dX20_init_0 : decode cX20_init 0 = .ok (.aload_n 0, 1) := dk_42 (dk_at dksX20_init_0 0 rfl rfl)
theorem dX20_init_1 : decode cX20_init 1 = .ok (.invokespecial 1, 3) := dk_183 0 1 (dk_at dksX20_init_0 1 rfl rfl)
theorem dX20_init_4 : decode cX20_init 4 = .ok (.aload_n 0, 1) := dk_42 (dk_at dksX20_init_0 4 rfl rfl)
theorem dX20_init_5 : decode cX20_init 5 = .ok (.aload_n 1, 1) := dk_43 (dk_at dksX20_init_0 5 rfl rfl)
theorem dX20_init_6 : decode cX20_init 6 = .ok (.putfield 7, 3) := dk_181 0 7 (dk_at dksX20_init_0 6 rfl rfl)
theorem dX20_init_9 : decode cX20_init 9 = .ok (.return_, 1) := dk_177 (dk_at dksX20_init_0 9 rfl rfl)
def dkwX20_on_0 : List UInt8 := [42, 27, 42, 180, 0, 7, 44, 182, 0, 13, 182, 0, 19, 172]
abbrev dktX20_on_0 : List UInt8 := dkwX20_on_0 ++ []
theorem dksX20_on_0 : cX20_on.data.toList.drop 0 = dktX20_on_0 := by decide +kernel
theorem dX20_on_0 : decode cX20_on 0 = .ok (.aload_n 0, 1) := dk_42 (dk_at dksX20_on_0 0 rfl rfl)
theorem dX20_on_1 : decode cX20_on 1 = .ok (.iload_n 1, 1) := dk_27 (dk_at dksX20_on_0 1 rfl rfl)
theorem dX20_on_2 : decode cX20_on 2 = .ok (.aload_n 0, 1) := dk_42 (dk_at dksX20_on_0 2 rfl rfl)
theorem dX20_on_3 : decode cX20_on 3 = .ok (.getfield 7, 3) := dk_180 0 7 (dk_at dksX20_on_0 3 rfl rfl)
theorem dX20_on_6 : decode cX20_on 6 = .ok (.aload_n 2, 1) := dk_44 (dk_at dksX20_on_0 6 rfl rfl)
theorem dX20_on_7 : decode cX20_on 7 = .ok (.invokevirtual 13, 3) := dk_182 0 13 (dk_at dksX20_on_0 7 rfl rfl)
theorem dX20_on_10 : decode cX20_on 10 = .ok (.invokevirtual 19, 3) := dk_182 0 19 (dk_at dksX20_on_0 10 rfl rfl)
theorem dX20_on_13 : decode cX20_on 13 = .ok (.ireturn, 1) := dk_172 (dk_at dksX20_on_0 13 rfl rfl)
def dkwX21_init_0 : List UInt8 := [42, 43, 183, 0, 1, 177]
abbrev dktX21_init_0 : List UInt8 := dkwX21_init_0 ++ []
theorem dksX21_init_0 : cX21_init.data.toList.drop 0 = dktX21_init_0 := by decide +kernel
theorem dX21_init_0 : decode cX21_init 0 = .ok (.aload_n 0, 1) := dk_42 (dk_at dksX21_init_0 0 rfl rfl)
theorem dX21_init_1 : decode cX21_init 1 = .ok (.aload_n 1, 1) := dk_43 (dk_at dksX21_init_0 1 rfl rfl)
theorem dX21_init_2 : decode cX21_init 2 = .ok (.invokespecial 1, 3) := dk_183 0 1 (dk_at dksX21_init_0 2 rfl rfl)
theorem dX21_init_5 : decode cX21_init 5 = .ok (.return_, 1) := dk_177 (dk_at dksX21_init_0 5 rfl rfl)
def dkwX21_with_0 : List UInt8 := [27, 28, 104, 172]
abbrev dktX21_with_0 : List UInt8 := dkwX21_with_0 ++ []
theorem dksX21_with_0 : cX21_with.data.toList.drop 0 = dktX21_with_0 := by decide +kernel
theorem dX21_with_0 : decode cX21_with 0 = .ok (.iload_n 1, 1) := dk_27 (dk_at dksX21_with_0 0 rfl rfl)
theorem dX21_with_1 : decode cX21_with 1 = .ok (.iload_n 2, 1) := dk_28 (dk_at dksX21_with_0 1 rfl rfl)
theorem dX21_with_2 : decode cX21_with 2 = .ok (.imul, 1) := dk_104 (dk_at dksX21_with_0 2 rfl rfl)
theorem dX21_with_3 : decode cX21_with 3 = .ok (.ireturn, 1) := dk_172 (dk_at dksX21_with_0 3 rfl rfl)
def dkwX22_init_0 : List UInt8 := [42, 43, 183, 0, 1, 177]
abbrev dktX22_init_0 : List UInt8 := dkwX22_init_0 ++ []
theorem dksX22_init_0 : cX22_init.data.toList.drop 0 = dktX22_init_0 := by decide +kernel
theorem dX22_init_0 : decode cX22_init 0 = .ok (.aload_n 0, 1) := dk_42 (dk_at dksX22_init_0 0 rfl rfl)
theorem dX22_init_1 : decode cX22_init 1 = .ok (.aload_n 1, 1) := dk_43 (dk_at dksX22_init_0 1 rfl rfl)
theorem dX22_init_2 : decode cX22_init 2 = .ok (.invokespecial 1, 3) := dk_183 0 1 (dk_at dksX22_init_0 2 rfl rfl)
theorem dX22_init_5 : decode cX22_init 5 = .ok (.return_, 1) := dk_177 (dk_at dksX22_init_0 5 rfl rfl)
def dkwX22_with_0 : List UInt8 := [27, 28, 96, 172]
abbrev dktX22_with_0 : List UInt8 := dkwX22_with_0 ++ []
theorem dksX22_with_0 : cX22_with.data.toList.drop 0 = dktX22_with_0 := by decide +kernel
theorem dX22_with_0 : decode cX22_with 0 = .ok (.iload_n 1, 1) := dk_27 (dk_at dksX22_with_0 0 rfl rfl)
theorem dX22_with_1 : decode cX22_with 1 = .ok (.iload_n 2, 1) := dk_28 (dk_at dksX22_with_0 1 rfl rfl)
theorem dX22_with_2 : decode cX22_with 2 = .ok (.iadd, 1) := dk_96 (dk_at dksX22_with_0 2 rfl rfl)
theorem dX22_with_3 : decode cX22_with 3 = .ok (.ireturn, 1) := dk_172 (dk_at dksX22_with_0 3 rfl rfl)
def dkwX23_init_0 : List UInt8 := [42, 43, 183, 0, 1, 177]
abbrev dktX23_init_0 : List UInt8 := dkwX23_init_0 ++ []
theorem dksX23_init_0 : cX23_init.data.toList.drop 0 = dktX23_init_0 := by decide +kernel
theorem dX23_init_0 : decode cX23_init 0 = .ok (.aload_n 0, 1) := dk_42 (dk_at dksX23_init_0 0 rfl rfl)
theorem dX23_init_1 : decode cX23_init 1 = .ok (.aload_n 1, 1) := dk_43 (dk_at dksX23_init_0 1 rfl rfl)
theorem dX23_init_2 : decode cX23_init 2 = .ok (.invokespecial 1, 3) := dk_183 0 1 (dk_at dksX23_init_0 2 rfl rfl)
theorem dX23_init_5 : decode cX23_init 5 = .ok (.return_, 1) := dk_177 (dk_at dksX23_init_0 5 rfl rfl)
def dkwX23_with_0 : List UInt8 := [27, 28, 100, 172]
abbrev dktX23_with_0 : List UInt8 := dkwX23_with_0 ++ []
theorem dksX23_with_0 : cX23_with.data.toList.drop 0 = dktX23_with_0 := by decide +kernel
theorem dX23_with_0 : decode cX23_with 0 = .ok (.iload_n 1, 1) := dk_27 (dk_at dksX23_with_0 0 rfl rfl)
theorem dX23_with_1 : decode cX23_with 1 = .ok (.iload_n 2, 1) := dk_28 (dk_at dksX23_with_0 1 rfl rfl)
theorem dX23_with_2 : decode cX23_with 2 = .ok (.isub, 1) := dk_100 (dk_at dksX23_with_0 2 rfl rfl)
theorem dX23_with_3 : decode cX23_with 3 = .ok (.ireturn, 1) := dk_172 (dk_at dksX23_with_0 3 rfl rfl)
def dkwX24_init_0 : List UInt8 := [42, 43, 183, 0, 1, 177]
abbrev dktX24_init_0 : List UInt8 := dkwX24_init_0 ++ []
theorem dksX24_init_0 : cX24_init.data.toList.drop 0 = dktX24_init_0 := by decide +kernel
theorem dX24_init_0 : decode cX24_init 0 = .ok (.aload_n 0, 1) := dk_42 (dk_at dksX24_init_0 0 rfl rfl)
theorem dX24_init_1 : decode cX24_init 1 = .ok (.aload_n 1, 1) := dk_43 (dk_at dksX24_init_0 1 rfl rfl)
theorem dX24_init_2 : decode cX24_init 2 = .ok (.invokespecial 1, 3) := dk_183 0 1 (dk_at dksX24_init_0 2 rfl rfl)
theorem dX24_init_5 : decode cX24_init 5 = .ok (.return_, 1) := dk_177 (dk_at dksX24_init_0 5 rfl rfl)
def dkwX24_with_0 : List UInt8 := [27, 28, 162, 0, 7, 4, 167, 0, 4, 3, 172]
abbrev dktX24_with_0 : List UInt8 := dkwX24_with_0 ++ []
theorem dksX24_with_0 : cX24_with.data.toList.drop 0 = dktX24_with_0 := by decide +kernel
theorem dX24_with_0 : decode cX24_with 0 = .ok (.iload_n 1, 1) := dk_27 (dk_at dksX24_with_0 0 rfl rfl)
theorem dX24_with_1 : decode cX24_with 1 = .ok (.iload_n 2, 1) := dk_28 (dk_at dksX24_with_0 1 rfl rfl)
theorem dX24_with_2 : decode cX24_with 2 = .ok (.if_icmp .ge 7, 3) := dk_162 0 7 (dk_at dksX24_with_0 2 rfl rfl)
theorem dX24_with_5 : decode cX24_with 5 = .ok (.iconst 1, 1) := dk_4 (dk_at dksX24_with_0 5 rfl rfl)
theorem dX24_with_6 : decode cX24_with 6 = .ok (.goto 4, 3) := dk_167 0 4 (dk_at dksX24_with_0 6 rfl rfl)
theorem dX24_with_9 : decode cX24_with 9 = .ok (.iconst 0, 1) := dk_3 (dk_at dksX24_with_0 9 rfl rfl)
theorem dX24_with_10 : decode cX24_with 10 = .ok (.ireturn, 1) := dk_172 (dk_at dksX24_with_0 10 rfl rfl)
def dkwX25_init_0 : List UInt8 := [42, 43, 183, 0, 1, 177]
abbrev dktX25_init_0 : List UInt8 := dkwX25_init_0 ++ []
theorem dksX25_init_0 : cX25_init.data.toList.drop 0 = dktX25_init_0 := by decide +kernel
theorem dX25_init_0 : decode cX25_init 0 = .ok (.aload_n 0, 1) := dk_42 (dk_at dksX25_init_0 0 rfl rfl)
theorem dX25_init_1 : decode cX25_init 1 = .ok (.aload_n 1, 1) := dk_43 (dk_at dksX25_init_0 1 rfl rfl)
theorem dX25_init_2 : decode cX25_init 2 = .ok (.invokespecial 1, 3) := dk_183 0 1 (dk_at dksX25_init_0 2 rfl rfl)
theorem dX25_init_5 : decode cX25_init 5 = .ok (.return_, 1) := dk_177 (dk_at dksX25_init_0 5 rfl rfl)
def dkwX25_with_0 : List UInt8 := [27, 28, 160, 0, 7, 4, 167, 0, 4, 3, 172]
abbrev dktX25_with_0 : List UInt8 := dkwX25_with_0 ++ []
theorem dksX25_with_0 : cX25_with.data.toList.drop 0 = dktX25_with_0 := by decide +kernel
theorem dX25_with_0 : decode cX25_with 0 = .ok (.iload_n 1, 1) := dk_27 (dk_at dksX25_with_0 0 rfl rfl)
theorem dX25_with_1 : decode cX25_with 1 = .ok (.iload_n 2, 1) := dk_28 (dk_at dksX25_with_0 1 rfl rfl)
theorem dX25_with_2 : decode cX25_with 2 = .ok (.if_icmp .ne 7, 3) := dk_160 0 7 (dk_at dksX25_with_0 2 rfl rfl)
theorem dX25_with_5 : decode cX25_with 5 = .ok (.iconst 1, 1) := dk_4 (dk_at dksX25_with_0 5 rfl rfl)
theorem dX25_with_6 : decode cX25_with 6 = .ok (.goto 4, 3) := dk_167 0 4 (dk_at dksX25_with_0 6 rfl rfl)
theorem dX25_with_9 : decode cX25_with 9 = .ok (.iconst 0, 1) := dk_3 (dk_at dksX25_with_0 9 rfl rfl)
theorem dX25_with_10 : decode cX25_with 10 = .ok (.ireturn, 1) := dk_172 (dk_at dksX25_with_0 10 rfl rfl)
def dkwX26_init_0 : List UInt8 := [42, 43, 183, 0, 1, 177]
abbrev dktX26_init_0 : List UInt8 := dkwX26_init_0 ++ []
theorem dksX26_init_0 : cX26_init.data.toList.drop 0 = dktX26_init_0 := by decide +kernel
theorem dX26_init_0 : decode cX26_init 0 = .ok (.aload_n 0, 1) := dk_42 (dk_at dksX26_init_0 0 rfl rfl)
theorem dX26_init_1 : decode cX26_init 1 = .ok (.aload_n 1, 1) := dk_43 (dk_at dksX26_init_0 1 rfl rfl)
theorem dX26_init_2 : decode cX26_init 2 = .ok (.invokespecial 1, 3) := dk_183 0 1 (dk_at dksX26_init_0 2 rfl rfl)
theorem dX26_init_5 : decode cX26_init 5 = .ok (.return_, 1) := dk_177 (dk_at dksX26_init_0 5 rfl rfl)
def dkwX26_with_0 : List UInt8 := [27, 153, 0, 11, 28, 153, 0, 7, 4, 167, 0, 4, 3, 172]
abbrev dktX26_with_0 : List UInt8 := dkwX26_with_0 ++ []
theorem dksX26_with_0 : cX26_with.data.toList.drop 0 = dktX26_with_0 := by decide +kernel
theorem dX26_with_0 : decode cX26_with 0 = .ok (.iload_n 1, 1) := dk_27 (dk_at dksX26_with_0 0 rfl rfl)
theorem dX26_with_1 : decode cX26_with 1 = .ok (.ifCond .eq 11, 3) := dk_153 0 11 (dk_at dksX26_with_0 1 rfl rfl)
theorem dX26_with_4 : decode cX26_with 4 = .ok (.iload_n 2, 1) := dk_28 (dk_at dksX26_with_0 4 rfl rfl)
theorem dX26_with_5 : decode cX26_with 5 = .ok (.ifCond .eq 7, 3) := dk_153 0 7 (dk_at dksX26_with_0 5 rfl rfl)
theorem dX26_with_8 : decode cX26_with 8 = .ok (.iconst 1, 1) := dk_4 (dk_at dksX26_with_0 8 rfl rfl)
theorem dX26_with_9 : decode cX26_with 9 = .ok (.goto 4, 3) := dk_167 0 4 (dk_at dksX26_with_0 9 rfl rfl)
theorem dX26_with_12 : decode cX26_with 12 = .ok (.iconst 0, 1) := dk_3 (dk_at dksX26_with_0 12 rfl rfl)
theorem dX26_with_13 : decode cX26_with 13 = .ok (.ireturn, 1) := dk_172 (dk_at dksX26_with_0 13 rfl rfl)
def dkwX27_init_0 : List UInt8 := [42, 43, 183, 0, 1, 177]
abbrev dktX27_init_0 : List UInt8 := dkwX27_init_0 ++ []
theorem dksX27_init_0 : cX27_init.data.toList.drop 0 = dktX27_init_0 := by decide +kernel
theorem dX27_init_0 : decode cX27_init 0 = .ok (.aload_n 0, 1) := dk_42 (dk_at dksX27_init_0 0 rfl rfl)
theorem dX27_init_1 : decode cX27_init 1 = .ok (.aload_n 1, 1) := dk_43 (dk_at dksX27_init_0 1 rfl rfl)
theorem dX27_init_2 : decode cX27_init 2 = .ok (.invokespecial 1, 3) := dk_183 0 1 (dk_at dksX27_init_0 2 rfl rfl)
theorem dX27_init_5 : decode cX27_init 5 = .ok (.return_, 1) := dk_177 (dk_at dksX27_init_0 5 rfl rfl)
def dkwX27_with_0 : List UInt8 := [27, 154, 0, 7, 28, 153, 0, 7, 4, 167, 0, 4, 3, 172]
abbrev dktX27_with_0 : List UInt8 := dkwX27_with_0 ++ []
theorem dksX27_with_0 : cX27_with.data.toList.drop 0 = dktX27_with_0 := by decide +kernel
theorem dX27_with_0 : decode cX27_with 0 = .ok (.iload_n 1, 1) := dk_27 (dk_at dksX27_with_0 0 rfl rfl)
theorem dX27_with_1 : decode cX27_with 1 = .ok (.ifCond .ne 7, 3) := dk_154 0 7 (dk_at dksX27_with_0 1 rfl rfl)
theorem dX27_with_4 : decode cX27_with 4 = .ok (.iload_n 2, 1) := dk_28 (dk_at dksX27_with_0 4 rfl rfl)
theorem dX27_with_5 : decode cX27_with 5 = .ok (.ifCond .eq 7, 3) := dk_153 0 7 (dk_at dksX27_with_0 5 rfl rfl)
theorem dX27_with_8 : decode cX27_with 8 = .ok (.iconst 1, 1) := dk_4 (dk_at dksX27_with_0 8 rfl rfl)
theorem dX27_with_9 : decode cX27_with 9 = .ok (.goto 4, 3) := dk_167 0 4 (dk_at dksX27_with_0 9 rfl rfl)
theorem dX27_with_12 : decode cX27_with 12 = .ok (.iconst 0, 1) := dk_3 (dk_at dksX27_with_0 12 rfl rfl)
theorem dX27_with_13 : decode cX27_with 13 = .ok (.ireturn, 1) := dk_172 (dk_at dksX27_with_0 13 rfl rfl)
theorem dX28_init_0 : decode cX28_init 0 = .ok (.aload_n 0, 1) := by decide +kernel
theorem dX28_init_1 : decode cX28_init 1 = .ok (.invokespecial 1, 3) := by decide +kernel
theorem dX28_init_4 : decode cX28_init 4 = .ok (.return_, 1) := by decide +kernel
theorem dX29_init_0 : decode cX29_init 0 = .ok (.aload_n 0, 1) := by decide +kernel
theorem dX29_init_1 : decode cX29_init 1 = .ok (.invokespecial 1, 3) := by decide +kernel
theorem dX29_init_4 : decode cX29_init 4 = .ok (.return_, 1) := by decide +kernel
def dkwX29_isDone_0 : List UInt8 := [43, 182, 0, 7, 87, 4, 172]
abbrev dktX29_isDone_0 : List UInt8 := dkwX29_isDone_0 ++ []
theorem dksX29_isDone_0 : cX29_isDone.data.toList.drop 0 = dktX29_isDone_0 := by decide +kernel
theorem dX29_isDone_0 : decode cX29_isDone 0 = .ok (.aload_n 1, 1) := dk_43 (dk_at dksX29_isDone_0 0 rfl rfl)
theorem dX29_isDone_1 : decode cX29_isDone 1 = .ok (.invokevirtual 7, 3) := dk_182 0 7 (dk_at dksX29_isDone_0 1 rfl rfl)
theorem dX29_isDone_4 : decode cX29_isDone 4 = .ok (.pop, 1) := dk_87 (dk_at dksX29_isDone_0 4 rfl rfl)
theorem dX29_isDone_5 : decode cX29_isDone 5 = .ok (.iconst 1, 1) := dk_4 (dk_at dksX29_isDone_0 5 rfl rfl)
theorem dX29_isDone_6 : decode cX29_isDone 6 = .ok (.ireturn, 1) := dk_172 (dk_at dksX29_isDone_0 6 rfl rfl)
def dkwX30_init_0 : List UInt8 := [42, 183, 0, 1, 42, 27, 181, 0, 7, 42, 28, 181, 0, 13, 177]
abbrev dktX30_init_0 : List UInt8 := dkwX30_init_0 ++ []
theorem dksX30_init_0 : cX30_init.data.toList.drop 0 = dktX30_init_0 := by decide +kernel
theorem dX30_init_0 : decode cX30_init 0 = .ok (.aload_n 0, 1) := dk_42 (dk_at dksX30_init_0 0 rfl rfl)
theorem dX30_init_1 : decode cX30_init 1 = .ok (.invokespecial 1, 3) := dk_183 0 1 (dk_at dksX30_init_0 1 rfl rfl)
theorem dX30_init_4 : decode cX30_init 4 = .ok (.aload_n 0, 1) := dk_42 (dk_at dksX30_init_0 4 rfl rfl)
theorem dX30_init_5 : decode cX30_init 5 = .ok (.iload_n 1, 1) := dk_27 (dk_at dksX30_init_0 5 rfl rfl)
theorem dX30_init_6 : decode cX30_init 6 = .ok (.putfield 7, 3) := dk_181 0 7 (dk_at dksX30_init_0 6 rfl rfl)
theorem dX30_init_9 : decode cX30_init 9 = .ok (.aload_n 0, 1) := dk_42 (dk_at dksX30_init_0 9 rfl rfl)
theorem dX30_init_10 : decode cX30_init 10 = .ok (.iload_n 2, 1) := dk_28 (dk_at dksX30_init_0 10 rfl rfl)
theorem dX30_init_11 : decode cX30_init 11 = .ok (.putfield 13, 3) := dk_181 0 13 (dk_at dksX30_init_0 11 rfl rfl)
theorem dX30_init_14 : decode cX30_init 14 = .ok (.return_, 1) := dk_177 (dk_at dksX30_init_0 14 rfl rfl)
def dkwX30_isDone_1 : List UInt8 := [180, 0, 13, 182, 0, 22, 4, 172]
abbrev dktX30_isDone_1 : List UInt8 := dkwX30_isDone_1 ++ []
def dkwX30_isDone_0 : List UInt8 := [43, 42, 180, 0, 7, 42, 180, 0, 13, 182, 0, 16, 154, 0, 5, 3, 172, 43, 42, 180, 0, 7, 42]
abbrev dktX30_isDone_0 : List UInt8 := dkwX30_isDone_0 ++ dktX30_isDone_1
theorem dksX30_isDone_0 : cX30_isDone.data.toList.drop 0 = dktX30_isDone_0 := by decide +kernel
theorem dksX30_isDone_1 : cX30_isDone.data.toList.drop 23 = dktX30_isDone_1 := dk_seg dksX30_isDone_0 23 rfl rfl
theorem dX30_isDone_0 : decode cX30_isDone 0 = .ok (.aload_n 1, 1) := dk_43 (dk_at dksX30_isDone_0 0 rfl rfl)
theorem dX30_isDone_1 : decode cX30_isDone 1 = .ok (.aload_n 0, 1) := dk_42 (dk_at dksX30_isDone_0 1 rfl rfl)
theorem dX30_isDone_2 : decode cX30_isDone 2 = .ok (.getfield 7, 3) := dk_180 0 7 (dk_at dksX30_isDone_0 2 rfl rfl)
theorem dX30_isDone_5 : decode cX30_isDone 5 = .ok (.aload_n 0, 1) := dk_42 (dk_at dksX30_isDone_0 5 rfl rfl)
theorem dX30_isDone_6 : decode cX30_isDone 6 = .ok (.getfield 13, 3) := dk_180 0 13 (dk_at dksX30_isDone_0 6 rfl rfl)
theorem dX30_isDone_9 : decode cX30_isDone 9 = .ok (.invokevirtual 16, 3) := dk_182 0 16 (dk_at dksX30_isDone_0 9 rfl rfl)
theorem dX30_isDone_12 : decode cX30_isDone 12 = .ok (.ifCond .ne 5, 3) := dk_154 0 5 (dk_at dksX30_isDone_0 12 rfl rfl)
theorem dX30_isDone_15 : decode cX30_isDone 15 = .ok (.iconst 0, 1) := dk_3 (dk_at dksX30_isDone_0 15 rfl rfl)
theorem dX30_isDone_16 : decode cX30_isDone 16 = .ok (.ireturn, 1) := dk_172 (dk_at dksX30_isDone_0 16 rfl rfl)
theorem dX30_isDone_17 : decode cX30_isDone 17 = .ok (.aload_n 1, 1) := dk_43 (dk_at dksX30_isDone_0 17 rfl rfl)
theorem dX30_isDone_18 : decode cX30_isDone 18 = .ok (.aload_n 0, 1) := dk_42 (dk_at dksX30_isDone_0 18 rfl rfl)
theorem dX30_isDone_19 : decode cX30_isDone 19 = .ok (.getfield 7, 3) := dk_180 0 7 (dk_at dksX30_isDone_0 19 rfl rfl)
theorem dX30_isDone_22 : decode cX30_isDone 22 = .ok (.aload_n 0, 1) := dk_42 (dk_at dksX30_isDone_0 22 rfl rfl)
theorem dX30_isDone_23 : decode cX30_isDone 23 = .ok (.getfield 13, 3) := dk_180 0 13 (dk_at dksX30_isDone_1 0 rfl rfl)
theorem dX30_isDone_26 : decode cX30_isDone 26 = .ok (.invokevirtual 22, 3) := dk_182 0 22 (dk_at dksX30_isDone_1 3 rfl rfl)
theorem dX30_isDone_29 : decode cX30_isDone 29 = .ok (.iconst 1, 1) := dk_4 (dk_at dksX30_isDone_1 6 rfl rfl)
theorem dX30_isDone_30 : decode cX30_isDone 30 = .ok (.ireturn, 1) := dk_172 (dk_at dksX30_isDone_1 7 rfl rfl)
def dkwX31_init_0 : List UInt8 := [42, 183, 0, 1, 42, 27, 181, 0, 7, 177]
abbrev dktX31_init_0 : List UInt8 := dkwX31_init_0 ++ []
theorem dksX31_init_0 : cX31_init.data.toList.drop 0 = dktX31_init_0 := by decide +kernel
theorem dX31_init_0 : decode cX31_init 0 = .ok (.aload_n 0, 1) := dk_42 (dk_at dksX31_init_0 0 rfl rfl)
theorem dX31_init_1 : decode cX31_init 1 = .ok (.invokespecial 1, 3) := dk_183 0 1 (dk_at dksX31_init_0 1 rfl rfl)
theorem dX31_init_4 : decode cX31_init 4 = .ok (.aload_n 0, 1) := dk_42 (dk_at dksX31_init_0 4 rfl rfl)
theorem dX31_init_5 : decode cX31_init 5 = .ok (.iload_n 1, 1) := dk_27 (dk_at dksX31_init_0 5 rfl rfl)
theorem dX31_init_6 : decode cX31_init 6 = .ok (.putfield 7, 3) := dk_181 0 7 (dk_at dksX31_init_0 6 rfl rfl)
theorem dX31_init_9 : decode cX31_init 9 = .ok (.return_, 1) := dk_177 (dk_at dksX31_init_0 9 rfl rfl)
def dkwX31_isDone_1 : List UInt8 := [180, 0, 7, 120, 128, 181, 0, 13, 4, 172]
abbrev dktX31_isDone_1 : List UInt8 := dkwX31_isDone_1 ++ []
def dkwX31_isDone_0 : List UInt8 := [43, 180, 0, 13, 42, 180, 0, 7, 184, 0, 18, 153, 0, 5, 3, 172, 43, 89, 180, 0, 13, 4, 42]
abbrev dktX31_isDone_0 : List UInt8 := dkwX31_isDone_0 ++ dktX31_isDone_1
theorem dksX31_isDone_0 : cX31_isDone.data.toList.drop 0 = dktX31_isDone_0 := by decide +kernel
theorem dksX31_isDone_1 : cX31_isDone.data.toList.drop 23 = dktX31_isDone_1 := dk_seg dksX31_isDone_0 23 rfl rfl
theorem dX31_isDone_0 : decode cX31_isDone 0 = .ok (.aload_n 1, 1) := dk_43 (dk_at dksX31_isDone_0 0 rfl rfl)
theorem dX31_isDone_1 : decode cX31_isDone 1 = .ok (.getfield 13, 3) := dk_180 0 13 (dk_at dksX31_isDone_0 1 rfl rfl)
theorem dX31_isDone_4 : decode cX31_isDone 4 = .ok (.aload_n 0, 1) := dk_42 (dk_at dksX31_isDone_0 4 rfl rfl)
theorem dX31_isDone_5 : decode cX31_isDone 5 = .ok (.getfield 7, 3) := dk_180 0 7 (dk_at dksX31_isDone_0 5 rfl rfl)
theorem dX31_isDone_8 : decode cX31_isDone 8 = .ok (.invokestatic 18, 3) := dk_184 0 18 (dk_at dksX31_isDone_0 8 rfl rfl)
theorem dX31_isDone_11 : decode cX31_isDone 11 = .ok (.ifCond .eq 5, 3) := dk_153 0 5 (dk_at dksX31_isDone_0 11 rfl rfl)
theorem dX31_isDone_14 : decode cX31_isDone 14 = .ok (.iconst 0, 1) := dk_3 (dk_at dksX31_isDone_0 14 rfl rfl)
theorem dX31_isDone_15 : decode cX31_isDone 15 = .ok (.ireturn, 1) := dk_172 (dk_at dksX31_isDone_0 15 rfl rfl)
theorem dX31_isDone_16 : decode cX31_isDone 16 = .ok (.aload_n 1, 1) := dk_43 (dk_at dksX31_isDone_0 16 rfl rfl)
theorem dX31_isDone_17 : decode cX31_isDone 17 = .ok (.dup, 1) := dk_89 (dk_at dksX31_isDone_0 17 rfl rfl)
theorem dX31_isDone_18 : decode cX31_isDone 18 = .ok (.getfield 13, 3) := dk_180 0 13 (dk_at dksX31_isDone_0 18 rfl rfl)
theorem dX31_isDone_21 : decode cX31_isDone 21 = .ok (.iconst 1, 1) := dk_4 (dk_at dksX31_isDone_0 21 rfl rfl)
theorem dX31_isDone_22 : decode cX31_isDone 22 = .ok (.aload_n 0, 1) := dk_42 (dk_at dksX31_isDone_0 22 rfl rfl)
theorem dX31_isDone_23 : decode cX31_isDone 23 = .ok (.getfield 7, 3) := dk_180 0 7 (dk_at dksX31_isDone_1 0 rfl rfl)
theorem dX31_isDone_26 : decode cX31_isDone 26 = .ok (.ishl, 1) := dk_120 (dk_at dksX31_isDone_1 3 rfl rfl)
theorem dX31_isDone_27 : decode cX31_isDone 27 = .ok (.ior, 1) := dk_128 (dk_at dksX31_isDone_1 4 rfl rfl)
theorem dX31_isDone_28 : decode cX31_isDone 28 = .ok (.putfield 13, 3) := dk_181 0 13 (dk_at dksX31_isDone_1 5 rfl rfl)
theorem dX31_isDone_31 : decode cX31_isDone 31 = .ok (.iconst 1, 1) := dk_4 (dk_at dksX31_isDone_1 8 rfl rfl)
theorem dX31_isDone_32 : decode cX31_isDone 32 = .ok (.ireturn, 1) := dk_172 (dk_at dksX31_isDone_1 9 rfl rfl)
def dkwX32_init_0 : List UInt8 := [42, 183, 0, 1, 42, 43, 181, 0, 7, 42, 44, 181, 0, 13, 42, 45, 181, 0, 17, 177]
abbrev dktX32_init_0 : List UInt8 := dkwX32_init_0 ++ []
theorem dksX32_init_0 : cX32_init.data.toList.drop 0 = dktX32_init_0 := by decide +kernel
theorem dX32_init_0 : decode cX32_init 0 = .ok (.aload_n 0, 1) := dk_42 (dk_at dksX32_init_0 0 rfl rfl)
theorem dX32_init_1 : decode cX32_init 1 = .ok (.invokespecial 1, 3) := dk_183 0 1 (dk_at dksX32_init_0 1 rfl rfl)
theorem dX32_init_4 : decode cX32_init 4 = .ok (.aload_n 0, 1) := dk_42 (dk_at dksX32_init_0 4 rfl rfl)
theorem dX32_init_5 : decode cX32_init 5 = .ok (.aload_n 1, 1) := dk_43 (dk_at dksX32_init_0 5 rfl rfl)
theorem dX32_init_6 : decode cX32_init 6 = .ok (.putfield 7, 3) := dk_181 0 7 (dk_at dksX32_init_0 6 rfl rfl)
theorem dX32_init_9 : decode cX32_init 9 = .ok (.aload_n 0, 1) := dk_42 (dk_at dksX32_init_0 9 rfl rfl)
theorem dX32_init_10 : decode cX32_init 10 = .ok (.aload_n 2, 1) := dk_44 (dk_at dksX32_init_0 10 rfl rfl)
theorem dX32_init_11 : decode cX32_init 11 = .ok (.putfield 13, 3) := dk_181 0 13 (dk_at dksX32_init_0 11 rfl rfl)
theorem dX32_init_14 : decode cX32_init 14 = .ok (.aload_n 0, 1) := dk_42 (dk_at dksX32_init_0 14 rfl rfl)
theorem dX32_init_15 : decode cX32_init 15 = .ok (.aload_n 3, 1) := dk_45 (dk_at dksX32_init_0 15 rfl rfl)
theorem dX32_init_16 : decode cX32_init 16 = .ok (.putfield 17, 3) := dk_181 0 17 (dk_at dksX32_init_0 16 rfl rfl)
theorem dX32_init_19 : decode cX32_init 19 = .ok (.return_, 1) := dk_177 (dk_at dksX32_init_0 19 rfl rfl)
