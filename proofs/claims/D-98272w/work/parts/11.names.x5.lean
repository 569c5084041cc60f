set_option maxRecDepth 100000
/-! WellPromisesModel -/
set_option maxRecDepth 100000
abbrev cX5_thrown : ByteArray := prog_26_method_1_code
def yX5_thrown : MethodName := ⟨RX5, "thrown", "()I"⟩
theorem dX5_thrown_0 : decode cX5_thrown 0 = .ok (.aload_n 0, 1) := by decide +kernel
theorem dX5_thrown_1 : decode cX5_thrown 1 = .ok (.getfield 1, 3) := by decide +kernel
theorem dX5_thrown_4 : decode cX5_thrown 4 = .ok (.ireturn, 1) := by decide +kernel
abbrev cX5_feed : ByteArray := prog_26_method_3_code
def yX5_feed : MethodName := ⟨RX5, "feed", "(IIIII)I"⟩
def dkwX5_feed_2 : List UInt8 := [182, 0, 10, 42, 180, 0, 7, 172]
abbrev dktX5_feed_2 : List UInt8 := dkwX5_feed_2 ++ []
def dkwX5_feed_1 : List UInt8 := [182, 0, 10, 42, 28, 182, 0, 10, 42, 29, 182, 0, 10, 42, 21, 4, 182, 0, 10, 42, 21, 5]
abbrev dktX5_feed_1 : List UInt8 := dkwX5_feed_1 ++ dktX5_feed_2
def dkwX5_feed_0 : List UInt8 := [42, 3, 181, 0, 1, 42, 180, 0, 7, 16, 20, 96, 17, 3, 172, 164, 0, 5, 2, 172, 42, 27]
abbrev dktX5_feed_0 : List UInt8 := dkwX5_feed_0 ++ dktX5_feed_1
theorem dksX5_feed_0 : cX5_feed.data.toList.drop 0 = dktX5_feed_0 := by decide +kernel
theorem dksX5_feed_1 : cX5_feed.data.toList.drop 22 = dktX5_feed_1 := dk_seg dksX5_feed_0 22 rfl rfl
theorem dksX5_feed_2 : cX5_feed.data.toList.drop 44 = dktX5_feed_2 := dk_seg dksX5_feed_1 22 rfl rfl
theorem dX5_feed_0 : decode cX5_feed 0 = .ok (.aload_n 0, 1) := dk_42 (dk_at dksX5_feed_0 0 rfl rfl)
theorem dX5_feed_1 : decode cX5_feed 1 = .ok (.iconst 0, 1) := dk_3 (dk_at dksX5_feed_0 1 rfl rfl)
theorem dX5_feed_2 : decode cX5_feed 2 = .ok (.putfield 1, 3) := dk_181 0 1 (dk_at dksX5_feed_0 2 rfl rfl)
theorem dX5_feed_5 : decode cX5_feed 5 = .ok (.aload_n 0, 1) := dk_42 (dk_at dksX5_feed_0 5 rfl rfl)
theorem dX5_feed_6 : decode cX5_feed 6 = .ok (.getfield 7, 3) := dk_180 0 7 (dk_at dksX5_feed_0 6 rfl rfl)
theorem dX5_feed_9 : decode cX5_feed 9 = .ok (.bipush 20, 2) := dk_16 20 (dk_at dksX5_feed_0 9 rfl rfl)
theorem dX5_feed_11 : decode cX5_feed 11 = .ok (.iadd, 1) := dk_96 (dk_at dksX5_feed_0 11 rfl rfl)
theorem dX5_feed_12 : decode cX5_feed 12 = .ok (.sipush 940, 3) := dk_17 3 172 (dk_at dksX5_feed_0 12 rfl rfl)
theorem dX5_feed_15 : decode cX5_feed 15 = .ok (.if_icmp .le 5, 3) := dk_164 0 5 (dk_at dksX5_feed_0 15 rfl rfl)
theorem dX5_feed_18 : decode cX5_feed 18 = .ok (.iconst (-1), 1) := dk_2 (dk_at dksX5_feed_0 18 rfl rfl)
theorem dX5_feed_19 : decode cX5_feed 19 = .ok (.ireturn, 1) := dk_172 (dk_at dksX5_feed_0 19 rfl rfl)
theorem dX5_feed_20 : decode cX5_feed 20 = .ok (.aload_n 0, 1) := dk_42 (dk_at dksX5_feed_0 20 rfl rfl)
theorem dX5_feed_21 : decode cX5_feed 21 = .ok (.iload_n 1, 1) := dk_27 (dk_at dksX5_feed_0 21 rfl rfl)
theorem dX5_feed_22 : decode cX5_feed 22 = .ok (.invokevirtual 10, 3) := dk_182 0 10 (dk_at dksX5_feed_1 0 rfl rfl)
theorem dX5_feed_25 : decode cX5_feed 25 = .ok (.aload_n 0, 1) := dk_42 (dk_at dksX5_feed_1 3 rfl rfl)
theorem dX5_feed_26 : decode cX5_feed 26 = .ok (.iload_n 2, 1) := dk_28 (dk_at dksX5_feed_1 4 rfl rfl)
theorem dX5_feed_27 : decode cX5_feed 27 = .ok (.invokevirtual 10, 3) := dk_182 0 10 (dk_at dksX5_feed_1 5 rfl rfl)
theorem dX5_feed_30 : decode cX5_feed 30 = .ok (.aload_n 0, 1) := dk_42 (dk_at dksX5_feed_1 8 rfl rfl)
theorem dX5_feed_31 : decode cX5_feed 31 = .ok (.iload_n 3, 1) := dk_29 (dk_at dksX5_feed_1 9 rfl rfl)
theorem dX5_feed_32 : decode cX5_feed 32 = .ok (.invokevirtual 10, 3) := dk_182 0 10 (dk_at dksX5_feed_1 10 rfl rfl)
theorem dX5_feed_35 : decode cX5_feed 35 = .ok (.aload_n 0, 1) := dk_42 (dk_at dksX5_feed_1 13 rfl rfl)
theorem dX5_feed_36 : decode cX5_feed 36 = .ok (.iload 4, 2) := dk_21 4 (dk_at dksX5_feed_1 14 rfl rfl)
theorem dX5_feed_38 : decode cX5_feed 38 = .ok (.invokevirtual 10, 3) := dk_182 0 10 (dk_at dksX5_feed_1 16 rfl rfl)
theorem dX5_feed_41 : decode cX5_feed 41 = .ok (.aload_n 0, 1) := dk_42 (dk_at dksX5_feed_1 19 rfl rfl)
theorem dX5_feed_42 : decode cX5_feed 42 = .ok (.iload 5, 2) := dk_21 5 (dk_at dksX5_feed_1 20 rfl rfl)
theorem dX5_feed_44 : decode cX5_feed 44 = .ok (.invokevirtual 10, 3) := dk_182 0 10 (dk_at dksX5_feed_2 0 rfl rfl)
theorem dX5_feed_47 : decode cX5_feed 47 = .ok (.aload_n 0, 1) := dk_42 (dk_at dksX5_feed_2 3 rfl rfl)
theorem dX5_feed_48 : decode cX5_feed 48 = .ok (.getfield 7, 3) := dk_180 0 7 (dk_at dksX5_feed_2 4 rfl rfl)
theorem dX5_feed_51 : decode cX5_feed 51 = .ok (.ireturn, 1) := dk_172 (dk_at dksX5_feed_2 7 rfl rfl)
abbrev cX5_four : ByteArray := prog_26_method_4_code
def yX5_four : MethodName := ⟨RX5, "four", "(I)V"⟩
def dkwX5_four_1 : List UInt8 := [180, 0, 7, 4, 96, 181, 0, 7, 132, 2, 248, 167, 255, 226, 177]
abbrev dktX5_four_1 : List UInt8 := dkwX5_four_1 ++ []
def dkwX5_four_0 : List UInt8 := [16, 24, 61, 28, 155, 0, 32, 42, 180, 0, 14, 42, 180, 0, 7, 27, 28, 122, 145, 84, 42, 89]
abbrev dktX5_four_0 : List UInt8 := dkwX5_four_0 ++ dktX5_four_1
theorem dksX5_four_0 : cX5_four.data.toList.drop 0 = dktX5_four_0 := by decide +kernel
theorem dksX5_four_1 : cX5_four.data.toList.drop 22 = dktX5_four_1 := dk_seg dksX5_four_0 22 rfl rfl
theorem dX5_four_0 : decode cX5_four 0 = .ok (.bipush 24, 2) := dk_16 24 (dk_at dksX5_four_0 0 rfl rfl)
theorem dX5_four_2 : decode cX5_four 2 = .ok (.istore_n 2, 1) := dk_61 (dk_at dksX5_four_0 2 rfl rfl)
theorem dX5_four_3 : decode cX5_four 3 = .ok (.iload_n 2, 1) := dk_28 (dk_at dksX5_four_0 3 rfl rfl)
theorem dX5_four_4 : decode cX5_four 4 = .ok (.ifCond .lt 32, 3) := dk_155 0 32 (dk_at dksX5_four_0 4 rfl rfl)
theorem dX5_four_7 : decode cX5_four 7 = .ok (.aload_n 0, 1) := dk_42 (dk_at dksX5_four_0 7 rfl rfl)
theorem dX5_four_8 : decode cX5_four 8 = .ok (.getfield 14, 3) := dk_180 0 14 (dk_at dksX5_four_0 8 rfl rfl)
theorem dX5_four_11 : decode cX5_four 11 = .ok (.aload_n 0, 1) := dk_42 (dk_at dksX5_four_0 11 rfl rfl)
theorem dX5_four_12 : decode cX5_four 12 = .ok (.getfield 7, 3) := dk_180 0 7 (dk_at dksX5_four_0 12 rfl rfl)
theorem dX5_four_15 : decode cX5_four 15 = .ok (.iload_n 1, 1) := dk_27 (dk_at dksX5_four_0 15 rfl rfl)
theorem dX5_four_16 : decode cX5_four 16 = .ok (.iload_n 2, 1) := dk_28 (dk_at dksX5_four_0 16 rfl rfl)
theorem dX5_four_17 : decode cX5_four 17 = .ok (.ishr, 1) := dk_122 (dk_at dksX5_four_0 17 rfl rfl)
theorem dX5_four_18 : decode cX5_four 18 = .ok (.i2b, 1) := dk_145 (dk_at dksX5_four_0 18 rfl rfl)
theorem dX5_four_19 : decode cX5_four 19 = .ok (.bastore, 1) := dk_84 (dk_at dksX5_four_0 19 rfl rfl)
theorem dX5_four_20 : decode cX5_four 20 = .ok (.aload_n 0, 1) := dk_42 (dk_at dksX5_four_0 20 rfl rfl)
theorem dX5_four_21 : decode cX5_four 21 = .ok (.dup, 1) := dk_89 (dk_at dksX5_four_0 21 rfl rfl)
theorem dX5_four_22 : decode cX5_four 22 = .ok (.getfield 7, 3) := dk_180 0 7 (dk_at dksX5_four_1 0 rfl rfl)
theorem dX5_four_25 : decode cX5_four 25 = .ok (.iconst 1, 1) := dk_4 (dk_at dksX5_four_1 3 rfl rfl)
theorem dX5_four_26 : decode cX5_four 26 = .ok (.iadd, 1) := dk_96 (dk_at dksX5_four_1 4 rfl rfl)
theorem dX5_four_27 : decode cX5_four 27 = .ok (.putfield 7, 3) := dk_181 0 7 (dk_at dksX5_four_1 5 rfl rfl)
theorem dX5_four_30 : decode cX5_four 30 = .ok (.iinc 2 (-8), 3) := dk_132 2 248 (dk_at dksX5_four_1 8 rfl rfl)
theorem dX5_four_33 : decode cX5_four 33 = .ok (.goto (-30), 3) := dk_167 255 226 (dk_at dksX5_four_1 11 rfl rfl)
theorem dX5_four_36 : decode cX5_four 36 = .ok (.return_, 1) := dk_177 (dk_at dksX5_four_1 14 rfl rfl)
abbrev cX5_end : ByteArray := prog_26_method_5_code
def yX5_end : MethodName := ⟨RX5, "end", "(I)Z"⟩
def dkwX5_end_1 : List UInt8 := [4, 172]
abbrev dktX5_end_1 : List UInt8 := dkwX5_end_1 ++ []
def dkwX5_end_0 : List UInt8 := [42, 3, 181, 0, 1, 27, 155, 0, 11, 27, 42, 180, 0, 7, 164, 0, 5, 3, 172, 42, 27, 181, 0, 7]
abbrev dktX5_end_0 : List UInt8 := dkwX5_end_0 ++ dktX5_end_1
theorem dksX5_end_0 : cX5_end.data.toList.drop 0 = dktX5_end_0 := by decide +kernel
theorem dksX5_end_1 : cX5_end.data.toList.drop 24 = dktX5_end_1 := dk_seg dksX5_end_0 24 rfl rfl
theorem dX5_end_0 : decode cX5_end 0 = .ok (.aload_n 0, 1) := dk_42 (dk_at dksX5_end_0 0 rfl rfl)
theorem dX5_end_1 : decode cX5_end 1 = .ok (.iconst 0, 1) := dk_3 (dk_at dksX5_end_0 1 rfl rfl)
theorem dX5_end_2 : decode cX5_end 2 = .ok (.putfield 1, 3) := dk_181 0 1 (dk_at dksX5_end_0 2 rfl rfl)
theorem dX5_end_5 : decode cX5_end 5 = .ok (.iload_n 1, 1) := dk_27 (dk_at dksX5_end_0 5 rfl rfl)
theorem dX5_end_6 : decode cX5_end 6 = .ok (.ifCond .lt 11, 3) := dk_155 0 11 (dk_at dksX5_end_0 6 rfl rfl)
theorem dX5_end_9 : decode cX5_end 9 = .ok (.iload_n 1, 1) := dk_27 (dk_at dksX5_end_0 9 rfl rfl)
theorem dX5_end_10 : decode cX5_end 10 = .ok (.aload_n 0, 1) := dk_42 (dk_at dksX5_end_0 10 rfl rfl)
theorem dX5_end_11 : decode cX5_end 11 = .ok (.getfield 7, 3) := dk_180 0 7 (dk_at dksX5_end_0 11 rfl rfl)
theorem dX5_end_14 : decode cX5_end 14 = .ok (.if_icmp .le 5, 3) := dk_164 0 5 (dk_at dksX5_end_0 14 rfl rfl)
theorem dX5_end_17 : decode cX5_end 17 = .ok (.iconst 0, 1) := dk_3 (dk_at dksX5_end_0 17 rfl rfl)
theorem dX5_end_18 : decode cX5_end 18 = .ok (.ireturn, 1) := dk_172 (dk_at dksX5_end_0 18 rfl rfl)
theorem dX5_end_19 : decode cX5_end 19 = .ok (.aload_n 0, 1) := dk_42 (dk_at dksX5_end_0 19 rfl rfl)
theorem dX5_end_20 : decode cX5_end 20 = .ok (.iload_n 1, 1) := dk_27 (dk_at dksX5_end_0 20 rfl rfl)
theorem dX5_end_21 : decode cX5_end 21 = .ok (.putfield 7, 3) := dk_181 0 7 (dk_at dksX5_end_0 21 rfl rfl)
theorem dX5_end_24 : decode cX5_end 24 = .ok (.iconst 1, 1) := dk_4 (dk_at dksX5_end_1 0 rfl rfl)
theorem dX5_end_25 : decode cX5_end 25 = .ok (.ireturn, 1) := dk_172 (dk_at dksX5_end_1 1 rfl rfl)
abbrev cX5_init : ByteArray := prog_26_method_11_code
def yX5_init : MethodName := ⟨RX5, "<init>", "()V"⟩
def dkwX5_init_18 : List UInt8 := [20, 0, 143, 80, 42, 180, 0, 33, 3, 16, 24, 79, 177]
abbrev dktX5_init_18 : List UInt8 := dkwX5_init_18 ++ []
def dkwX5_init_17 : List UInt8 := [16, 24, 20, 0, 139, 80, 42, 180, 0, 47, 16, 25, 20, 0, 141, 80, 42, 180, 0, 47, 16, 26]
abbrev dktX5_init_17 : List UInt8 := dkwX5_init_17 ++ dktX5_init_18
def dkwX5_init_16 : List UInt8 := [42, 180, 0, 47, 16, 22, 20, 0, 135, 80, 42, 180, 0, 47, 16, 23, 20, 0, 137, 80, 42, 180, 0, 47]
abbrev dktX5_init_16 : List UInt8 := dkwX5_init_16 ++ dktX5_init_17
def dkwX5_init_15 : List UInt8 := [20, 0, 129, 80, 42, 180, 0, 47, 16, 20, 20, 0, 131, 80, 42, 180, 0, 47, 16, 21, 20, 0, 133, 80]
abbrev dktX5_init_15 : List UInt8 := dkwX5_init_15 ++ dktX5_init_16
def dkwX5_init_14 : List UInt8 := [16, 17, 20, 0, 125, 80, 42, 180, 0, 47, 16, 18, 20, 0, 127, 80, 42, 180, 0, 47, 16, 19]
abbrev dktX5_init_14 : List UInt8 := dkwX5_init_14 ++ dktX5_init_15
def dkwX5_init_13 : List UInt8 := [42, 180, 0, 47, 16, 15, 20, 0, 121, 80, 42, 180, 0, 47, 16, 16, 20, 0, 123, 80, 42, 180, 0, 47]
abbrev dktX5_init_13 : List UInt8 := dkwX5_init_13 ++ dktX5_init_14
def dkwX5_init_12 : List UInt8 := [20, 0, 115, 80, 42, 180, 0, 47, 16, 13, 20, 0, 117, 80, 42, 180, 0, 47, 16, 14, 20, 0, 119, 80]
abbrev dktX5_init_12 : List UInt8 := dkwX5_init_12 ++ dktX5_init_13
def dkwX5_init_11 : List UInt8 := [16, 10, 20, 0, 111, 80, 42, 180, 0, 47, 16, 11, 20, 0, 113, 80, 42, 180, 0, 47, 16, 12]
abbrev dktX5_init_11 : List UInt8 := dkwX5_init_11 ++ dktX5_init_12
def dkwX5_init_10 : List UInt8 := [42, 180, 0, 47, 16, 8, 20, 0, 107, 80, 42, 180, 0, 47, 16, 9, 20, 0, 109, 80, 42, 180, 0, 47]
abbrev dktX5_init_10 : List UInt8 := dkwX5_init_10 ++ dktX5_init_11
def dkwX5_init_9 : List UInt8 := [20, 0, 101, 80, 42, 180, 0, 47, 16, 6, 20, 0, 103, 80, 42, 180, 0, 47, 16, 7, 20, 0, 105, 80]
abbrev dktX5_init_9 : List UInt8 := dkwX5_init_9 ++ dktX5_init_10
def dkwX5_init_8 : List UInt8 := [180, 0, 47, 6, 20, 0, 97, 80, 42, 180, 0, 47, 7, 20, 0, 99, 80, 42, 180, 0, 47, 8]
abbrev dktX5_init_8 : List UInt8 := dkwX5_init_8 ++ dktX5_init_9
def dkwX5_init_7 : List UInt8 := [3, 20, 0, 91, 80, 42, 180, 0, 47, 4, 20, 0, 93, 80, 42, 180, 0, 47, 5, 20, 0, 95, 80, 42]
abbrev dktX5_init_7 : List UInt8 := dkwX5_init_7 ++ dktX5_init_8
def dkwX5_init_6 : List UInt8 := [188, 10, 181, 0, 82, 42, 16, 52, 188, 11, 181, 0, 85, 42, 5, 188, 4, 181, 0, 88, 42, 180, 0, 47]
abbrev dktX5_init_6 : List UInt8 := dkwX5_init_6 ++ dktX5_init_7
def dkwX5_init_5 : List UInt8 := [181, 0, 72, 42, 16, 45, 188, 10, 181, 0, 75, 42, 16, 45, 188, 4, 181, 0, 78, 42, 17, 5, 34]
abbrev dktX5_init_5 : List UInt8 := dkwX5_init_5 ++ dktX5_init_6
def dkwX5_init_4 : List UInt8 := [181, 0, 63, 42, 16, 24, 188, 10, 181, 0, 66, 42, 16, 6, 188, 10, 181, 0, 69, 42, 7, 188, 10]
abbrev dktX5_init_4 : List UInt8 := dkwX5_init_4 ++ dktX5_init_5
def dkwX5_init_3 : List UInt8 := [181, 0, 53, 42, 17, 1, 114, 188, 10, 181, 0, 56, 42, 18, 59, 188, 10, 181, 0, 60, 42, 7, 188, 10]
abbrev dktX5_init_3 : List UInt8 := dkwX5_init_3 ++ dktX5_init_4
def dkwX5_init_2 : List UInt8 := [42, 16, 27, 188, 11, 181, 0, 47, 42, 16, 8, 188, 10, 181, 0, 50, 42, 17, 11, 144, 188, 10]
abbrev dktX5_init_2 : List UInt8 := dkwX5_init_2 ++ dktX5_init_3
def dkwX5_init_1 : List UInt8 := [16, 106, 188, 10, 181, 0, 37, 42, 17, 0, 135, 188, 10, 181, 0, 40, 42, 16, 52, 188, 11, 181, 0, 43]
abbrev dktX5_init_1 : List UInt8 := dkwX5_init_1 ++ dktX5_init_2
def dkwX5_init_0 : List UInt8 := [42, 183, 0, 27, 42, 17, 3, 172, 188, 8, 181, 0, 14, 42, 17, 2, 145, 188, 10, 181, 0, 33, 42]
abbrev dktX5_init_0 : List UInt8 := dkwX5_init_0 ++ dktX5_init_1
theorem dksX5_init_0 : cX5_init.data.toList.drop 0 = dktX5_init_0 := by decide +kernel
theorem dksX5_init_1 : cX5_init.data.toList.drop 23 = dktX5_init_1 := dk_seg dksX5_init_0 23 rfl rfl
theorem dksX5_init_2 : cX5_init.data.toList.drop 47 = dktX5_init_2 := dk_seg dksX5_init_1 24 rfl rfl
theorem dksX5_init_3 : cX5_init.data.toList.drop 69 = dktX5_init_3 := dk_seg dksX5_init_2 22 rfl rfl
theorem dksX5_init_4 : cX5_init.data.toList.drop 93 = dktX5_init_4 := dk_seg dksX5_init_3 24 rfl rfl
theorem dksX5_init_5 : cX5_init.data.toList.drop 116 = dktX5_init_5 := dk_seg dksX5_init_4 23 rfl rfl
theorem dksX5_init_6 : cX5_init.data.toList.drop 139 = dktX5_init_6 := dk_seg dksX5_init_5 23 rfl rfl
theorem dksX5_init_7 : cX5_init.data.toList.drop 163 = dktX5_init_7 := dk_seg dksX5_init_6 24 rfl rfl
theorem dksX5_init_8 : cX5_init.data.toList.drop 187 = dktX5_init_8 := dk_seg dksX5_init_7 24 rfl rfl
theorem dksX5_init_9 : cX5_init.data.toList.drop 209 = dktX5_init_9 := dk_seg dksX5_init_8 22 rfl rfl
theorem dksX5_init_10 : cX5_init.data.toList.drop 233 = dktX5_init_10 := dk_seg dksX5_init_9 24 rfl rfl
theorem dksX5_init_11 : cX5_init.data.toList.drop 257 = dktX5_init_11 := dk_seg dksX5_init_10 24 rfl rfl
theorem dksX5_init_12 : cX5_init.data.toList.drop 279 = dktX5_init_12 := dk_seg dksX5_init_11 22 rfl rfl
theorem dksX5_init_13 : cX5_init.data.toList.drop 303 = dktX5_init_13 := dk_seg dksX5_init_12 24 rfl rfl
theorem dksX5_init_14 : cX5_init.data.toList.drop 327 = dktX5_init_14 := dk_seg dksX5_init_13 24 rfl rfl
theorem dksX5_init_15 : cX5_init.data.toList.drop 349 = dktX5_init_15 := dk_seg dksX5_init_14 22 rfl rfl
theorem dksX5_init_16 : cX5_init.data.toList.drop 373 = dktX5_init_16 := dk_seg dksX5_init_15 24 rfl rfl
theorem dksX5_init_17 : cX5_init.data.toList.drop 397 = dktX5_init_17 := dk_seg dksX5_init_16 24 rfl rfl
theorem dksX5_init_18 : cX5_init.data.toList.drop 419 = dktX5_init_18 := dk_seg dksX5_init_17 22 rfl rfl
theorem dX5_init_0 : decode cX5_init 0 = .ok (.aload_n 0, 1) := dk_42 (dk_at dksX5_init_0 0 rfl rfl)
theorem dX5_init_1 : decode cX5_init 1 = .ok (.invokespecial 27, 3) := dk_183 0 27 (dk_at dksX5_init_0 1 rfl rfl)
theorem dX5_init_4 : decode cX5_init 4 = .ok (.aload_n 0, 1) := dk_42 (dk_at dksX5_init_0 4 rfl rfl)
theorem dX5_init_5 : decode cX5_init 5 = .ok (.sipush 940, 3) := dk_17 3 172 (dk_at dksX5_init_0 5 rfl rfl)
theorem dX5_init_8 : decode cX5_init 8 = .ok (.newarray .byte, 2) := dk_188_8 (dk_at dksX5_init_0 8 rfl rfl)
theorem dX5_init_10 : decode cX5_init 10 = .ok (.putfield 14, 3) := dk_181 0 14 (dk_at dksX5_init_0 10 rfl rfl)
theorem dX5_init_13 : decode cX5_init 13 = .ok (.aload_n 0, 1) := dk_42 (dk_at dksX5_init_0 13 rfl rfl)
theorem dX5_init_14 : decode cX5_init 14 = .ok (.sipush 657, 3) := dk_17 2 145 (dk_at dksX5_init_0 14 rfl rfl)
theorem dX5_init_17 : decode cX5_init 17 = .ok (.newarray .int, 2) := dk_188_10 (dk_at dksX5_init_0 17 rfl rfl)
theorem dX5_init_19 : decode cX5_init 19 = .ok (.putfield 33, 3) := dk_181 0 33 (dk_at dksX5_init_0 19 rfl rfl)
theorem dX5_init_22 : decode cX5_init 22 = .ok (.aload_n 0, 1) := dk_42 (dk_at dksX5_init_0 22 rfl rfl)
theorem dX5_init_23 : decode cX5_init 23 = .ok (.bipush 106, 2) := dk_16 106 (dk_at dksX5_init_1 0 rfl rfl)
theorem dX5_init_25 : decode cX5_init 25 = .ok (.newarray .int, 2) := dk_188_10 (dk_at dksX5_init_1 2 rfl rfl)
theorem dX5_init_27 : decode cX5_init 27 = .ok (.putfield 37, 3) := dk_181 0 37 (dk_at dksX5_init_1 4 rfl rfl)
theorem dX5_init_30 : decode cX5_init 30 = .ok (.aload_n 0, 1) := dk_42 (dk_at dksX5_init_1 7 rfl rfl)
theorem dX5_init_31 : decode cX5_init 31 = .ok (.sipush 135, 3) := dk_17 0 135 (dk_at dksX5_init_1 8 rfl rfl)
theorem dX5_init_34 : decode cX5_init 34 = .ok (.newarray .int, 2) := dk_188_10 (dk_at dksX5_init_1 11 rfl rfl)
theorem dX5_init_36 : decode cX5_init 36 = .ok (.putfield 40, 3) := dk_181 0 40 (dk_at dksX5_init_1 13 rfl rfl)
theorem dX5_init_39 : decode cX5_init 39 = .ok (.aload_n 0, 1) := dk_42 (dk_at dksX5_init_1 16 rfl rfl)
theorem dX5_init_40 : decode cX5_init 40 = .ok (.bipush 52, 2) := dk_16 52 (dk_at dksX5_init_1 17 rfl rfl)
theorem dX5_init_42 : decode cX5_init 42 = .ok (.newarray .long, 2) := dk_188_11 (dk_at dksX5_init_1 19 rfl rfl)
theorem dX5_init_44 : decode cX5_init 44 = .ok (.putfield 43, 3) := dk_181 0 43 (dk_at dksX5_init_1 21 rfl rfl)
theorem dX5_init_47 : decode cX5_init 47 = .ok (.aload_n 0, 1) := dk_42 (dk_at dksX5_init_2 0 rfl rfl)
theorem dX5_init_48 : decode cX5_init 48 = .ok (.bipush 27, 2) := dk_16 27 (dk_at dksX5_init_2 1 rfl rfl)
theorem dX5_init_50 : decode cX5_init 50 = .ok (.newarray .long, 2) := dk_188_11 (dk_at dksX5_init_2 3 rfl rfl)
theorem dX5_init_52 : decode cX5_init 52 = .ok (.putfield 47, 3) := dk_181 0 47 (dk_at dksX5_init_2 5 rfl rfl)
theorem dX5_init_55 : decode cX5_init 55 = .ok (.aload_n 0, 1) := dk_42 (dk_at dksX5_init_2 8 rfl rfl)
theorem dX5_init_56 : decode cX5_init 56 = .ok (.bipush 8, 2) := dk_16 8 (dk_at dksX5_init_2 9 rfl rfl)
theorem dX5_init_58 : decode cX5_init 58 = .ok (.newarray .int, 2) := dk_188_10 (dk_at dksX5_init_2 11 rfl rfl)
theorem dX5_init_60 : decode cX5_init 60 = .ok (.putfield 50, 3) := dk_181 0 50 (dk_at dksX5_init_2 13 rfl rfl)
theorem dX5_init_63 : decode cX5_init 63 = .ok (.aload_n 0, 1) := dk_42 (dk_at dksX5_init_2 16 rfl rfl)
theorem dX5_init_64 : decode cX5_init 64 = .ok (.sipush 2960, 3) := dk_17 11 144 (dk_at dksX5_init_2 17 rfl rfl)
theorem dX5_init_67 : decode cX5_init 67 = .ok (.newarray .int, 2) := dk_188_10 (dk_at dksX5_init_2 20 rfl rfl)
theorem dX5_init_69 : decode cX5_init 69 = .ok (.putfield 53, 3) := dk_181 0 53 (dk_at dksX5_init_3 0 rfl rfl)
theorem dX5_init_72 : decode cX5_init 72 = .ok (.aload_n 0, 1) := dk_42 (dk_at dksX5_init_3 3 rfl rfl)
theorem dX5_init_73 : decode cX5_init 73 = .ok (.sipush 370, 3) := dk_17 1 114 (dk_at dksX5_init_3 4 rfl rfl)
theorem dX5_init_76 : decode cX5_init 76 = .ok (.newarray .int, 2) := dk_188_10 (dk_at dksX5_init_3 7 rfl rfl)
theorem dX5_init_78 : decode cX5_init 78 = .ok (.putfield 56, 3) := dk_181 0 56 (dk_at dksX5_init_3 9 rfl rfl)
theorem dX5_init_81 : decode cX5_init 81 = .ok (.aload_n 0, 1) := dk_42 (dk_at dksX5_init_3 12 rfl rfl)
theorem dX5_init_82 : decode cX5_init 82 = .ok (.ldc 59, 2) := dk_18 59 (dk_at dksX5_init_3 13 rfl rfl)
theorem dX5_init_84 : decode cX5_init 84 = .ok (.newarray .int, 2) := dk_188_10 (dk_at dksX5_init_3 15 rfl rfl)
theorem dX5_init_86 : decode cX5_init 86 = .ok (.putfield 60, 3) := dk_181 0 60 (dk_at dksX5_init_3 17 rfl rfl)
theorem dX5_init_89 : decode cX5_init 89 = .ok (.aload_n 0, 1) := dk_42 (dk_at dksX5_init_3 20 rfl rfl)
theorem dX5_init_90 : decode cX5_init 90 = .ok (.iconst 4, 1) := dk_7 (dk_at dksX5_init_3 21 rfl rfl)
theorem dX5_init_91 : decode cX5_init 91 = .ok (.newarray .int, 2) := dk_188_10 (dk_at dksX5_init_3 22 rfl rfl)
theorem dX5_init_93 : decode cX5_init 93 = .ok (.putfield 63, 3) := dk_181 0 63 (dk_at dksX5_init_4 0 rfl rfl)
theorem dX5_init_96 : decode cX5_init 96 = .ok (.aload_n 0, 1) := dk_42 (dk_at dksX5_init_4 3 rfl rfl)
theorem dX5_init_97 : decode cX5_init 97 = .ok (.bipush 24, 2) := dk_16 24 (dk_at dksX5_init_4 4 rfl rfl)
theorem dX5_init_99 : decode cX5_init 99 = .ok (.newarray .int, 2) := dk_188_10 (dk_at dksX5_init_4 6 rfl rfl)
theorem dX5_init_101 : decode cX5_init 101 = .ok (.putfield 66, 3) := dk_181 0 66 (dk_at dksX5_init_4 8 rfl rfl)
theorem dX5_init_104 : decode cX5_init 104 = .ok (.aload_n 0, 1) := dk_42 (dk_at dksX5_init_4 11 rfl rfl)
theorem dX5_init_105 : decode cX5_init 105 = .ok (.bipush 6, 2) := dk_16 6 (dk_at dksX5_init_4 12 rfl rfl)
theorem dX5_init_107 : decode cX5_init 107 = .ok (.newarray .int, 2) := dk_188_10 (dk_at dksX5_init_4 14 rfl rfl)
theorem dX5_init_109 : decode cX5_init 109 = .ok (.putfield 69, 3) := dk_181 0 69 (dk_at dksX5_init_4 16 rfl rfl)
theorem dX5_init_112 : decode cX5_init 112 = .ok (.aload_n 0, 1) := dk_42 (dk_at dksX5_init_4 19 rfl rfl)
theorem dX5_init_113 : decode cX5_init 113 = .ok (.iconst 4, 1) := dk_7 (dk_at dksX5_init_4 20 rfl rfl)
theorem dX5_init_114 : decode cX5_init 114 = .ok (.newarray .int, 2) := dk_188_10 (dk_at dksX5_init_4 21 rfl rfl)
theorem dX5_init_116 : decode cX5_init 116 = .ok (.putfield 72, 3) := dk_181 0 72 (dk_at dksX5_init_5 0 rfl rfl)
theorem dX5_init_119 : decode cX5_init 119 = .ok (.aload_n 0, 1) := dk_42 (dk_at dksX5_init_5 3 rfl rfl)
theorem dX5_init_120 : decode cX5_init 120 = .ok (.bipush 45, 2) := dk_16 45 (dk_at dksX5_init_5 4 rfl rfl)
theorem dX5_init_122 : decode cX5_init 122 = .ok (.newarray .int, 2) := dk_188_10 (dk_at dksX5_init_5 6 rfl rfl)
theorem dX5_init_124 : decode cX5_init 124 = .ok (.putfield 75, 3) := dk_181 0 75 (dk_at dksX5_init_5 8 rfl rfl)
theorem dX5_init_127 : decode cX5_init 127 = .ok (.aload_n 0, 1) := dk_42 (dk_at dksX5_init_5 11 rfl rfl)
theorem dX5_init_128 : decode cX5_init 128 = .ok (.bipush 45, 2) := dk_16 45 (dk_at dksX5_init_5 12 rfl rfl)
theorem dX5_init_130 : decode cX5_init 130 = .ok (.newarray .boolean, 2) := dk_188_4 (dk_at dksX5_init_5 14 rfl rfl)
theorem dX5_init_132 : decode cX5_init 132 = .ok (.putfield 78, 3) := dk_181 0 78 (dk_at dksX5_init_5 16 rfl rfl)
theorem dX5_init_135 : decode cX5_init 135 = .ok (.aload_n 0, 1) := dk_42 (dk_at dksX5_init_5 19 rfl rfl)
theorem dX5_init_136 : decode cX5_init 136 = .ok (.sipush 1314, 3) := dk_17 5 34 (dk_at dksX5_init_5 20 rfl rfl)
theorem dX5_init_139 : decode cX5_init 139 = .ok (.newarray .int, 2) := dk_188_10 (dk_at dksX5_init_6 0 rfl rfl)
theorem dX5_init_141 : decode cX5_init 141 = .ok (.putfield 82, 3) := dk_181 0 82 (dk_at dksX5_init_6 2 rfl rfl)
theorem dX5_init_144 : decode cX5_init 144 = .ok (.aload_n 0, 1) := dk_42 (dk_at dksX5_init_6 5 rfl rfl)
theorem dX5_init_145 : decode cX5_init 145 = .ok (.bipush 52, 2) := dk_16 52 (dk_at dksX5_init_6 6 rfl rfl)
theorem dX5_init_147 : decode cX5_init 147 = .ok (.newarray .long, 2) := dk_188_11 (dk_at dksX5_init_6 8 rfl rfl)
theorem dX5_init_149 : decode cX5_init 149 = .ok (.putfield 85, 3) := dk_181 0 85 (dk_at dksX5_init_6 10 rfl rfl)
theorem dX5_init_152 : decode cX5_init 152 = .ok (.aload_n 0, 1) := dk_42 (dk_at dksX5_init_6 13 rfl rfl)
theorem dX5_init_153 : decode cX5_init 153 = .ok (.iconst 2, 1) := dk_5 (dk_at dksX5_init_6 14 rfl rfl)
theorem dX5_init_154 : decode cX5_init 154 = .ok (.newarray .boolean, 2) := dk_188_4 (dk_at dksX5_init_6 15 rfl rfl)
theorem dX5_init_156 : decode cX5_init 156 = .ok (.putfield 88, 3) := dk_181 0 88 (dk_at dksX5_init_6 17 rfl rfl)
theorem dX5_init_159 : decode cX5_init 159 = .ok (.aload_n 0, 1) := dk_42 (dk_at dksX5_init_6 20 rfl rfl)
theorem dX5_init_160 : decode cX5_init 160 = .ok (.getfield 47, 3) := dk_180 0 47 (dk_at dksX5_init_6 21 rfl rfl)
theorem dX5_init_163 : decode cX5_init 163 = .ok (.iconst 0, 1) := dk_3 (dk_at dksX5_init_7 0 rfl rfl)
theorem dX5_init_164 : decode cX5_init 164 = .ok (.ldc2_w 91, 3) := dk_20 0 91 (dk_at dksX5_init_7 1 rfl rfl)
theorem dX5_init_167 : decode cX5_init 167 = .ok (.lastore, 1) := dk_80 (dk_at dksX5_init_7 4 rfl rfl)
theorem dX5_init_168 : decode cX5_init 168 = .ok (.aload_n 0, 1) := dk_42 (dk_at dksX5_init_7 5 rfl rfl)
theorem dX5_init_169 : decode cX5_init 169 = .ok (.getfield 47, 3) := dk_180 0 47 (dk_at dksX5_init_7 6 rfl rfl)
theorem dX5_init_172 : decode cX5_init 172 = .ok (.iconst 1, 1) := dk_4 (dk_at dksX5_init_7 9 rfl rfl)
theorem dX5_init_173 : decode cX5_init 173 = .ok (.ldc2_w 93, 3) := dk_20 0 93 (dk_at dksX5_init_7 10 rfl rfl)
theorem dX5_init_176 : decode cX5_init 176 = .ok (.lastore, 1) := dk_80 (dk_at dksX5_init_7 13 rfl rfl)
theorem dX5_init_177 : decode cX5_init 177 = .ok (.aload_n 0, 1) := dk_42 (dk_at dksX5_init_7 14 rfl rfl)
theorem dX5_init_178 : decode cX5_init 178 = .ok (.getfield 47, 3) := dk_180 0 47 (dk_at dksX5_init_7 15 rfl rfl)
theorem dX5_init_181 : decode cX5_init 181 = .ok (.iconst 2, 1) := dk_5 (dk_at dksX5_init_7 18 rfl rfl)
theorem dX5_init_182 : decode cX5_init 182 = .ok (.ldc2_w 95, 3) := dk_20 0 95 (dk_at dksX5_init_7 19 rfl rfl)
theorem dX5_init_185 : decode cX5_init 185 = .ok (.lastore, 1) := dk_80 (dk_at dksX5_init_7 22 rfl rfl)
theorem dX5_init_186 : decode cX5_init 186 = .ok (.aload_n 0, 1) := dk_42 (dk_at dksX5_init_7 23 rfl rfl)
theorem dX5_init_187 : decode cX5_init 187 = .ok (.getfield 47, 3) := dk_180 0 47 (dk_at dksX5_init_8 0 rfl rfl)
theorem dX5_init_190 : decode cX5_init 190 = .ok (.iconst 3, 1) := dk_6 (dk_at dksX5_init_8 3 rfl rfl)
theorem dX5_init_191 : decode cX5_init 191 = .ok (.ldc2_w 97, 3) := dk_20 0 97 (dk_at dksX5_init_8 4 rfl rfl)
theorem dX5_init_194 : decode cX5_init 194 = .ok (.lastore, 1) := dk_80 (dk_at dksX5_init_8 7 rfl rfl)
theorem dX5_init_195 : decode cX5_init 195 = .ok (.aload_n 0, 1) := dk_42 (dk_at dksX5_init_8 8 rfl rfl)
theorem dX5_init_196 : decode cX5_init 196 = .ok (.getfield 47, 3) := dk_180 0 47 (dk_at dksX5_init_8 9 rfl rfl)
theorem dX5_init_199 : decode cX5_init 199 = .ok (.iconst 4, 1) := dk_7 (dk_at dksX5_init_8 12 rfl rfl)
theorem dX5_init_200 : decode cX5_init 200 = .ok (.ldc2_w 99, 3) := dk_20 0 99 (dk_at dksX5_init_8 13 rfl rfl)
theorem dX5_init_203 : decode cX5_init 203 = .ok (.lastore, 1) := dk_80 (dk_at dksX5_init_8 16 rfl rfl)
theorem dX5_init_204 : decode cX5_init 204 = .ok (.aload_n 0, 1) := dk_42 (dk_at dksX5_init_8 17 rfl rfl)
theorem dX5_init_205 : decode cX5_init 205 = .ok (.getfield 47, 3) := dk_180 0 47 (dk_at dksX5_init_8 18 rfl rfl)
theorem dX5_init_208 : decode cX5_init 208 = .ok (.iconst 5, 1) := dk_8 (dk_at dksX5_init_8 21 rfl rfl)
theorem dX5_init_209 : decode cX5_init 209 = .ok (.ldc2_w 101, 3) := dk_20 0 101 (dk_at dksX5_init_9 0 rfl rfl)
theorem dX5_init_212 : decode cX5_init 212 = .ok (.lastore, 1) := dk_80 (dk_at dksX5_init_9 3 rfl rfl)
theorem dX5_init_213 : decode cX5_init 213 = .ok (.aload_n 0, 1) := dk_42 (dk_at dksX5_init_9 4 rfl rfl)
theorem dX5_init_214 : decode cX5_init 214 = .ok (.getfield 47, 3) := dk_180 0 47 (dk_at dksX5_init_9 5 rfl rfl)
theorem dX5_init_217 : decode cX5_init 217 = .ok (.bipush 6, 2) := dk_16 6 (dk_at dksX5_init_9 8 rfl rfl)
theorem dX5_init_219 : decode cX5_init 219 = .ok (.ldc2_w 103, 3) := dk_20 0 103 (dk_at dksX5_init_9 10 rfl rfl)
theorem dX5_init_222 : decode cX5_init 222 = .ok (.lastore, 1) := dk_80 (dk_at dksX5_init_9 13 rfl rfl)
theorem dX5_init_223 : decode cX5_init 223 = .ok (.aload_n 0, 1) := dk_42 (dk_at dksX5_init_9 14 rfl rfl)
theorem dX5_init_224 : decode cX5_init 224 = .ok (.getfield 47, 3) := dk_180 0 47 (dk_at dksX5_init_9 15 rfl rfl)
theorem dX5_init_227 : decode cX5_init 227 = .ok (.bipush 7, 2) := dk_16 7 (dk_at dksX5_init_9 18 rfl rfl)
theorem dX5_init_229 : decode cX5_init 229 = .ok (.ldc2_w 105, 3) := dk_20 0 105 (dk_at dksX5_init_9 20 rfl rfl)
theorem dX5_init_232 : decode cX5_init 232 = .ok (.lastore, 1) := dk_80 (dk_at dksX5_init_9 23 rfl rfl)
theorem dX5_init_233 : decode cX5_init 233 = .ok (.aload_n 0, 1) := dk_42 (dk_at dksX5_init_10 0 rfl rfl)
theorem dX5_init_234 : decode cX5_init 234 = .ok (.getfield 47, 3) := dk_180 0 47 (dk_at dksX5_init_10 1 rfl rfl)
theorem dX5_init_237 : decode cX5_init 237 = .ok (.bipush 8, 2) := dk_16 8 (dk_at dksX5_init_10 4 rfl rfl)
theorem dX5_init_239 : decode cX5_init 239 = .ok (.ldc2_w 107, 3) := dk_20 0 107 (dk_at dksX5_init_10 6 rfl rfl)
theorem dX5_init_242 : decode cX5_init 242 = .ok (.lastore, 1) := dk_80 (dk_at dksX5_init_10 9 rfl rfl)
theorem dX5_init_243 : decode cX5_init 243 = .ok (.aload_n 0, 1) := dk_42 (dk_at dksX5_init_10 10 rfl rfl)
theorem dX5_init_244 : decode cX5_init 244 = .ok (.getfield 47, 3) := dk_180 0 47 (dk_at dksX5_init_10 11 rfl rfl)
theorem dX5_init_247 : decode cX5_init 247 = .ok (.bipush 9, 2) := dk_16 9 (dk_at dksX5_init_10 14 rfl rfl)
theorem dX5_init_249 : decode cX5_init 249 = .ok (.ldc2_w 109, 3) := dk_20 0 109 (dk_at dksX5_init_10 16 rfl rfl)
theorem dX5_init_252 : decode cX5_init 252 = .ok (.lastore, 1) := dk_80 (dk_at dksX5_init_10 19 rfl rfl)
theorem dX5_init_253 : decode cX5_init 253 = .ok (.aload_n 0, 1) := dk_42 (dk_at dksX5_init_10 20 rfl rfl)
theorem dX5_init_254 : decode cX5_init 254 = .ok (.getfield 47, 3) := dk_180 0 47 (dk_at dksX5_init_10 21 rfl rfl)
theorem dX5_init_257 : decode cX5_init 257 = .ok (.bipush 10, 2) := dk_16 10 (dk_at dksX5_init_11 0 rfl rfl)
theorem dX5_init_259 : decode cX5_init 259 = .ok (.ldc2_w 111, 3) := dk_20 0 111 (dk_at dksX5_init_11 2 rfl rfl)
theorem dX5_init_262 : decode cX5_init 262 = .ok (.lastore, 1) := dk_80 (dk_at dksX5_init_11 5 rfl rfl)
theorem dX5_init_263 : decode cX5_init 263 = .ok (.aload_n 0, 1) := dk_42 (dk_at dksX5_init_11 6 rfl rfl)
theorem dX5_init_264 : decode cX5_init 264 = .ok (.getfield 47, 3) := dk_180 0 47 (dk_at dksX5_init_11 7 rfl rfl)
theorem dX5_init_267 : decode cX5_init 267 = .ok (.bipush 11, 2) := dk_16 11 (dk_at dksX5_init_11 10 rfl rfl)
theorem dX5_init_269 : decode cX5_init 269 = .ok (.ldc2_w 113, 3) := dk_20 0 113 (dk_at dksX5_init_11 12 rfl rfl)
theorem dX5_init_272 : decode cX5_init 272 = .ok (.lastore, 1) := dk_80 (dk_at dksX5_init_11 15 rfl rfl)
theorem dX5_init_273 : decode cX5_init 273 = .ok (.aload_n 0, 1) := dk_42 (dk_at dksX5_init_11 16 rfl rfl)
theorem dX5_init_274 : decode cX5_init 274 = .ok (.getfield 47, 3) := dk_180 0 47 (dk_at dksX5_init_11 17 rfl rfl)
theorem dX5_init_277 : decode cX5_init 277 = .ok (.bipush 12, 2) := dk_16 12 (dk_at dksX5_init_11 20 rfl rfl)
theorem dX5_init_279 : decode cX5_init 279 = .ok (.ldc2_w 115, 3) := dk_20 0 115 (dk_at dksX5_init_12 0 rfl rfl)
theorem dX5_init_282 : decode cX5_init 282 = .ok (.lastore, 1) := dk_80 (dk_at dksX5_init_12 3 rfl rfl)
theorem dX5_init_283 : decode cX5_init 283 = .ok (.aload_n 0, 1) := dk_42 (dk_at dksX5_init_12 4 rfl rfl)
theorem dX5_init_284 : decode cX5_init 284 = .ok (.getfield 47, 3) := dk_180 0 47 (dk_at dksX5_init_12 5 rfl rfl)
theorem dX5_init_287 : decode cX5_init 287 = .ok (.bipush 13, 2) := dk_16 13 (dk_at dksX5_init_12 8 rfl rfl)
theorem dX5_init_289 : decode cX5_init 289 = .ok (.ldc2_w 117, 3) := dk_20 0 117 (dk_at dksX5_init_12 10 rfl rfl)
theorem dX5_init_292 : decode cX5_init 292 = .ok (.lastore, 1) := dk_80 (dk_at dksX5_init_12 13 rfl rfl)
theorem dX5_init_293 : decode cX5_init 293 = .ok (.aload_n 0, 1) := dk_42 (dk_at dksX5_init_12 14 rfl rfl)
theorem dX5_init_294 : decode cX5_init 294 = .ok (.getfield 47, 3) := dk_180 0 47 (dk_at dksX5_init_12 15 rfl rfl)
theorem dX5_init_297 : decode cX5_init 297 = .ok (.bipush 14, 2) := dk_16 14 (dk_at dksX5_init_12 18 rfl rfl)
theorem dX5_init_299 : decode cX5_init 299 = .ok (.ldc2_w 119, 3) := dk_20 0 119 (dk_at dksX5_init_12 20 rfl rfl)
theorem dX5_init_302 : decode cX5_init 302 = .ok (.lastore, 1) := dk_80 (dk_at dksX5_init_12 23 rfl rfl)
theorem dX5_init_303 : decode cX5_init 303 = .ok (.aload_n 0, 1) := dk_42 (dk_at dksX5_init_13 0 rfl rfl)
theorem dX5_init_304 : decode cX5_init 304 = .ok (.getfield 47, 3) := dk_180 0 47 (dk_at dksX5_init_13 1 rfl rfl)
theorem dX5_init_307 : decode cX5_init 307 = .ok (.bipush 15, 2) := dk_16 15 (dk_at dksX5_init_13 4 rfl rfl)
theorem dX5_init_309 : decode cX5_init 309 = .ok (.ldc2_w 121, 3) := dk_20 0 121 (dk_at dksX5_init_13 6 rfl rfl)
theorem dX5_init_312 : decode cX5_init 312 = .ok (.lastore, 1) := dk_80 (dk_at dksX5_init_13 9 rfl rfl)
theorem dX5_init_313 : decode cX5_init 313 = .ok (.aload_n 0, 1) := dk_42 (dk_at dksX5_init_13 10 rfl rfl)
theorem dX5_init_314 : decode cX5_init 314 = .ok (.getfield 47, 3) := dk_180 0 47 (dk_at dksX5_init_13 11 rfl rfl)
theorem dX5_init_317 : decode cX5_init 317 = .ok (.bipush 16, 2) := dk_16 16 (dk_at dksX5_init_13 14 rfl rfl)
theorem dX5_init_319 : decode cX5_init 319 = .ok (.ldc2_w 123, 3) := dk_20 0 123 (dk_at dksX5_init_13 16 rfl rfl)
theorem dX5_init_322 : decode cX5_init 322 = .ok (.lastore, 1) := dk_80 (dk_at dksX5_init_13 19 rfl rfl)
theorem dX5_init_323 : decode cX5_init 323 = .ok (.aload_n 0, 1) := dk_42 (dk_at dksX5_init_13 20 rfl rfl)
theorem dX5_init_324 : decode cX5_init 324 = .ok (.getfield 47, 3) := dk_180 0 47 (dk_at dksX5_init_13 21 rfl rfl)
theorem dX5_init_327 : decode cX5_init 327 = .ok (.bipush 17, 2) := dk_16 17 (dk_at dksX5_init_14 0 rfl rfl)
theorem dX5_init_329 : decode cX5_init 329 = .ok (.ldc2_w 125, 3) := dk_20 0 125 (dk_at dksX5_init_14 2 rfl rfl)
theorem dX5_init_332 : decode cX5_init 332 = .ok (.lastore, 1) := dk_80 (dk_at dksX5_init_14 5 rfl rfl)
theorem dX5_init_333 : decode cX5_init 333 = .ok (.aload_n 0, 1) := dk_42 (dk_at dksX5_init_14 6 rfl rfl)
theorem dX5_init_334 : decode cX5_init 334 = .ok (.getfield 47, 3) := dk_180 0 47 (dk_at dksX5_init_14 7 rfl rfl)
theorem dX5_init_337 : decode cX5_init 337 = .ok (.bipush 18, 2) := dk_16 18 (dk_at dksX5_init_14 10 rfl rfl)
theorem dX5_init_339 : decode cX5_init 339 = .ok (.ldc2_w 127, 3) := dk_20 0 127 (dk_at dksX5_init_14 12 rfl rfl)
theorem dX5_init_342 : decode cX5_init 342 = .ok (.lastore, 1) := dk_80 (dk_at dksX5_init_14 15 rfl rfl)
theorem dX5_init_343 : decode cX5_init 343 = .ok (.aload_n 0, 1) := dk_42 (dk_at dksX5_init_14 16 rfl rfl)
theorem dX5_init_344 : decode cX5_init 344 = .ok (.getfield 47, 3) := dk_180 0 47 (dk_at dksX5_init_14 17 rfl rfl)
theorem dX5_init_347 : decode cX5_init 347 = .ok (.bipush 19, 2) := dk_16 19 (dk_at dksX5_init_14 20 rfl rfl)
theorem dX5_init_349 : decode cX5_init 349 = .ok (.ldc2_w 129, 3) := dk_20 0 129 (dk_at dksX5_init_15 0 rfl rfl)
theorem dX5_init_352 : decode cX5_init 352 = .ok (.lastore, 1) := dk_80 (dk_at dksX5_init_15 3 rfl rfl)
theorem dX5_init_353 : decode cX5_init 353 = .ok (.aload_n 0, 1) := dk_42 (dk_at dksX5_init_15 4 rfl rfl)
theorem dX5_init_354 : decode cX5_init 354 = .ok (.getfield 47, 3) := dk_180 0 47 (dk_at dksX5_init_15 5 rfl rfl)
theorem dX5_init_357 : decode cX5_init 357 = .ok (.bipush 20, 2) := dk_16 20 (dk_at dksX5_init_15 8 rfl rfl)
theorem dX5_init_359 : decode cX5_init 359 = .ok (.ldc2_w 131, 3) := dk_20 0 131 (dk_at dksX5_init_15 10 rfl rfl)
theorem dX5_init_362 : decode cX5_init 362 = .ok (.lastore, 1) := dk_80 (dk_at dksX5_init_15 13 rfl rfl)
theorem dX5_init_363 : decode cX5_init 363 = .ok (.aload_n 0, 1) := dk_42 (dk_at dksX5_init_15 14 rfl rfl)
theorem dX5_init_364 : decode cX5_init 364 = .ok (.getfield 47, 3) := dk_180 0 47 (dk_at dksX5_init_15 15 rfl rfl)
theorem dX5_init_367 : decode cX5_init 367 = .ok (.bipush 21, 2) := dk_16 21 (dk_at dksX5_init_15 18 rfl rfl)
theorem dX5_init_369 : decode cX5_init 369 = .ok (.ldc2_w 133, 3) := dk_20 0 133 (dk_at dksX5_init_15 20 rfl rfl)
theorem dX5_init_372 : decode cX5_init 372 = .ok (.lastore, 1) := dk_80 (dk_at dksX5_init_15 23 rfl rfl)
theorem dX5_init_373 : decode cX5_init 373 = .ok (.aload_n 0, 1) := dk_42 (dk_at dksX5_init_16 0 rfl rfl)
theorem dX5_init_374 : decode cX5_init 374 = .ok (.getfield 47, 3) := dk_180 0 47 (dk_at dksX5_init_16 1 rfl rfl)
theorem dX5_init_377 : decode cX5_init 377 = .ok (.bipush 22, 2) := dk_16 22 (dk_at dksX5_init_16 4 rfl rfl)
theorem dX5_init_379 : decode cX5_init 379 = .ok (.ldc2_w 135, 3) := dk_20 0 135 (dk_at dksX5_init_16 6 rfl rfl)
theorem dX5_init_382 : decode cX5_init 382 = .ok (.lastore, 1) := dk_80 (dk_at dksX5_init_16 9 rfl rfl)
theorem dX5_init_383 : decode cX5_init 383 = .ok (.aload_n 0, 1) := dk_42 (dk_at dksX5_init_16 10 rfl rfl)
theorem dX5_init_384 : decode cX5_init 384 = .ok (.getfield 47, 3) := dk_180 0 47 (dk_at dksX5_init_16 11 rfl rfl)
theorem dX5_init_387 : decode cX5_init 387 = .ok (.bipush 23, 2) := dk_16 23 (dk_at dksX5_init_16 14 rfl rfl)
theorem dX5_init_389 : decode cX5_init 389 = .ok (.ldc2_w 137, 3) := dk_20 0 137 (dk_at dksX5_init_16 16 rfl rfl)
theorem dX5_init_392 : decode cX5_init 392 = .ok (.lastore, 1) := dk_80 (dk_at dksX5_init_16 19 rfl rfl)
theorem dX5_init_393 : decode cX5_init 393 = .ok (.aload_n 0, 1) := dk_42 (dk_at dksX5_init_16 20 rfl rfl)
theorem dX5_init_394 : decode cX5_init 394 = .ok (.getfield 47, 3) := dk_180 0 47 (dk_at dksX5_init_16 21 rfl rfl)
theorem dX5_init_397 : decode cX5_init 397 = .ok (.bipush 24, 2) := dk_16 24 (dk_at dksX5_init_17 0 rfl rfl)
theorem dX5_init_399 : decode cX5_init 399 = .ok (.ldc2_w 139, 3) := dk_20 0 139 (dk_at dksX5_init_17 2 rfl rfl)
theorem dX5_init_402 : decode cX5_init 402 = .ok (.lastore, 1) := dk_80 (dk_at dksX5_init_17 5 rfl rfl)
theorem dX5_init_403 : decode cX5_init 403 = .ok (.aload_n 0, 1) := dk_42 (dk_at dksX5_init_17 6 rfl rfl)
theorem dX5_init_404 : decode cX5_init 404 = .ok (.getfield 47, 3) := dk_180 0 47 (dk_at dksX5_init_17 7 rfl rfl)
theorem dX5_init_407 : decode cX5_init 407 = .ok (.bipush 25, 2) := dk_16 25 (dk_at dksX5_init_17 10 rfl rfl)
theorem dX5_init_409 : decode cX5_init 409 = .ok (.ldc2_w 141, 3) := dk_20 0 141 (dk_at dksX5_init_17 12 rfl rfl)
theorem dX5_init_412 : decode cX5_init 412 = .ok (.lastore, 1) := dk_80 (dk_at dksX5_init_17 15 rfl rfl)
theorem dX5_init_413 : decode cX5_init 413 = .ok (.aload_n 0, 1) := dk_42 (dk_at dksX5_init_17 16 rfl rfl)
theorem dX5_init_414 : decode cX5_init 414 = .ok (.getfield 47, 3) := dk_180 0 47 (dk_at dksX5_init_17 17 rfl rfl)
theorem dX5_init_417 : decode cX5_init 417 = .ok (.bipush 26, 2) := dk_16 26 (dk_at dksX5_init_17 20 rfl rfl)
theorem dX5_init_419 : decode cX5_init 419 = .ok (.ldc2_w 143, 3) := dk_20 0 143 (dk_at dksX5_init_18 0 rfl rfl)
theorem dX5_init_422 : decode cX5_init 422 = .ok (.lastore, 1) := dk_80 (dk_at dksX5_init_18 3 rfl rfl)
theorem dX5_init_423 : decode cX5_init 423 = .ok (.aload_n 0, 1) := dk_42 (dk_at dksX5_init_18 4 rfl rfl)
theorem dX5_init_424 : decode cX5_init 424 = .ok (.getfield 33, 3) := dk_180 0 33 (dk_at dksX5_init_18 5 rfl rfl)
theorem dX5_init_427 : decode cX5_init 427 = .ok (.iconst 0, 1) := dk_3 (dk_at dksX5_init_18 8 rfl rfl)
theorem dX5_init_428 : decode cX5_init 428 = .ok (.bipush 24, 2) := dk_16 24 (dk_at dksX5_init_18 9 rfl rfl)
theorem dX5_init_430 : decode cX5_init 430 = .ok (.iastore, 1) := dk_79 (dk_at dksX5_init_18 11 rfl rfl)
theorem dX5_init_431 : decode cX5_init 431 = .ok (.return_, 1) := dk_177 (dk_at dksX5_init_18 12 rfl rfl)
abbrev cX5_house : ByteArray := prog_26_method_28_code
def yX5_house : MethodName := ⟨RX5, "house", "()I"⟩
def dkwX5_house_8 : List UInt8 := [27, 96, 46, 79, 132, 1, 1, 167, 255, 230, 42, 3, 181, 0, 241, 42, 180, 0, 232, 172]
abbrev dktX5_house_8 : List UInt8 := dkwX5_house_8 ++ []
def dkwX5_house_7 : List UInt8 := [167, 255, 232, 3, 60, 27, 7, 162, 0, 27, 42, 180, 0, 33, 16, 107, 27, 96, 42, 180, 0, 33, 16, 22]
abbrev dktX5_house_7 : List UInt8 := dkwX5_house_7 ++ dktX5_house_8
def dkwX5_house_6 : List UInt8 := [27, 16, 26, 162, 0, 24, 42, 180, 0, 43, 27, 42, 180, 0, 43, 16, 26, 27, 96, 47, 80, 132, 1, 1]
abbrev dktX5_house_6 : List UInt8 := dkwX5_house_6 ++ dktX5_house_7
def dkwX5_house_5 : List UInt8 := [16, 106, 162, 0, 12, 42, 180, 0, 37, 27, 46, 167, 0, 4, 3, 79, 132, 1, 1, 167, 255, 224, 3, 60]
abbrev dktX5_house_5 : List UInt8 := dkwX5_house_5 ++ dktX5_house_6
def dkwX5_house_4 : List UInt8 := [4, 96, 181, 0, 232, 167, 255, 216, 3, 60, 27, 17, 2, 145, 162, 0, 31, 42, 180, 0, 33, 27, 27]
abbrev dktX5_house_4 : List UInt8 := dkwX5_house_4 ++ dktX5_house_5
def dkwX5_house_3 : List UInt8 := [153, 0, 12, 42, 16, 59, 182, 0, 238, 154, 0, 10, 2, 42, 180, 0, 175, 100, 172, 42, 89, 180, 0, 232]
abbrev dktX5_house_3 : List UInt8 := dkwX5_house_3 ++ dktX5_house_4
def dkwX5_house_2 : List UInt8 := [42, 180, 0, 37, 3, 16, 24, 79, 42, 182, 0, 184, 42, 180, 0, 155, 153, 0, 39, 42, 182, 0, 235]
abbrev dktX5_house_2 : List UInt8 := dkwX5_house_2 ++ dktX5_house_3
def dkwX5_house_1 : List UInt8 := [181, 0, 210, 3, 60, 27, 16, 106, 162, 0, 16, 42, 180, 0, 37, 27, 3, 79, 132, 1, 1, 167, 255, 240]
abbrev dktX5_house_1 : List UInt8 := dkwX5_house_1 ++ dktX5_house_2
def dkwX5_house_0 : List UInt8 := [42, 3, 181, 0, 1, 42, 17, 3, 132, 182, 0, 229, 42, 3, 181, 0, 172, 42, 3, 181, 0, 232, 42, 3]
abbrev dktX5_house_0 : List UInt8 := dkwX5_house_0 ++ dktX5_house_1
theorem dksX5_house_0 : cX5_house.data.toList.drop 0 = dktX5_house_0 := by decide +kernel
theorem dksX5_house_1 : cX5_house.data.toList.drop 24 = dktX5_house_1 := dk_seg dksX5_house_0 24 rfl rfl
theorem dksX5_house_2 : cX5_house.data.toList.drop 48 = dktX5_house_2 := dk_seg dksX5_house_1 24 rfl rfl
theorem dksX5_house_3 : cX5_house.data.toList.drop 71 = dktX5_house_3 := dk_seg dksX5_house_2 23 rfl rfl
theorem dksX5_house_4 : cX5_house.data.toList.drop 95 = dktX5_house_4 := dk_seg dksX5_house_3 24 rfl rfl
theorem dksX5_house_5 : cX5_house.data.toList.drop 118 = dktX5_house_5 := dk_seg dksX5_house_4 23 rfl rfl
theorem dksX5_house_6 : cX5_house.data.toList.drop 142 = dktX5_house_6 := dk_seg dksX5_house_5 24 rfl rfl
theorem dksX5_house_7 : cX5_house.data.toList.drop 166 = dktX5_house_7 := dk_seg dksX5_house_6 24 rfl rfl
theorem dksX5_house_8 : cX5_house.data.toList.drop 190 = dktX5_house_8 := dk_seg dksX5_house_7 24 rfl rfl
theorem dX5_house_0 : decode cX5_house 0 = .ok (.aload_n 0, 1) := dk_42 (dk_at dksX5_house_0 0 rfl rfl)
theorem dX5_house_1 : decode cX5_house 1 = .ok (.iconst 0, 1) := dk_3 (dk_at dksX5_house_0 1 rfl rfl)
theorem dX5_house_2 : decode cX5_house 2 = .ok (.putfield 1, 3) := dk_181 0 1 (dk_at dksX5_house_0 2 rfl rfl)
theorem dX5_house_5 : decode cX5_house 5 = .ok (.aload_n 0, 1) := dk_42 (dk_at dksX5_house_0 5 rfl rfl)
theorem dX5_house_6 : decode cX5_house 6 = .ok (.sipush 900, 3) := dk_17 3 132 (dk_at dksX5_house_0 6 rfl rfl)
theorem dX5_house_9 : decode cX5_house 9 = .ok (.invokevirtual 229, 3) := dk_182 0 229 (dk_at dksX5_house_0 9 rfl rfl)
theorem dX5_house_12 : decode cX5_house 12 = .ok (.aload_n 0, 1) := dk_42 (dk_at dksX5_house_0 12 rfl rfl)
theorem dX5_house_13 : decode cX5_house 13 = .ok (.iconst 0, 1) := dk_3 (dk_at dksX5_house_0 13 rfl rfl)
theorem dX5_house_14 : decode cX5_house 14 = .ok (.putfield 172, 3) := dk_181 0 172 (dk_at dksX5_house_0 14 rfl rfl)
theorem dX5_house_17 : decode cX5_house 17 = .ok (.aload_n 0, 1) := dk_42 (dk_at dksX5_house_0 17 rfl rfl)
theorem dX5_house_18 : decode cX5_house 18 = .ok (.iconst 0, 1) := dk_3 (dk_at dksX5_house_0 18 rfl rfl)
theorem dX5_house_19 : decode cX5_house 19 = .ok (.putfield 232, 3) := dk_181 0 232 (dk_at dksX5_house_0 19 rfl rfl)
theorem dX5_house_22 : decode cX5_house 22 = .ok (.aload_n 0, 1) := dk_42 (dk_at dksX5_house_0 22 rfl rfl)
theorem dX5_house_23 : decode cX5_house 23 = .ok (.iconst 0, 1) := dk_3 (dk_at dksX5_house_0 23 rfl rfl)
theorem dX5_house_24 : decode cX5_house 24 = .ok (.putfield 210, 3) := dk_181 0 210 (dk_at dksX5_house_1 0 rfl rfl)
theorem dX5_house_27 : decode cX5_house 27 = .ok (.iconst 0, 1) := dk_3 (dk_at dksX5_house_1 3 rfl rfl)
theorem dX5_house_28 : decode cX5_house 28 = .ok (.istore_n 1, 1) := dk_60 (dk_at dksX5_house_1 4 rfl rfl)
theorem dX5_house_29 : decode cX5_house 29 = .ok (.iload_n 1, 1) := dk_27 (dk_at dksX5_house_1 5 rfl rfl)
theorem dX5_house_30 : decode cX5_house 30 = .ok (.bipush 106, 2) := dk_16 106 (dk_at dksX5_house_1 6 rfl rfl)
theorem dX5_house_32 : decode cX5_house 32 = .ok (.if_icmp .ge 16, 3) := dk_162 0 16 (dk_at dksX5_house_1 8 rfl rfl)
theorem dX5_house_35 : decode cX5_house 35 = .ok (.aload_n 0, 1) := dk_42 (dk_at dksX5_house_1 11 rfl rfl)
theorem dX5_house_36 : decode cX5_house 36 = .ok (.getfield 37, 3) := dk_180 0 37 (dk_at dksX5_house_1 12 rfl rfl)
theorem dX5_house_39 : decode cX5_house 39 = .ok (.iload_n 1, 1) := dk_27 (dk_at dksX5_house_1 15 rfl rfl)
theorem dX5_house_40 : decode cX5_house 40 = .ok (.iconst 0, 1) := dk_3 (dk_at dksX5_house_1 16 rfl rfl)
theorem dX5_house_41 : decode cX5_house 41 = .ok (.iastore, 1) := dk_79 (dk_at dksX5_house_1 17 rfl rfl)
theorem dX5_house_42 : decode cX5_house 42 = .ok (.iinc 1 1, 3) := dk_132 1 1 (dk_at dksX5_house_1 18 rfl rfl)
theorem dX5_house_45 : decode cX5_house 45 = .ok (.goto (-16), 3) := dk_167 255 240 (dk_at dksX5_house_1 21 rfl rfl)
theorem dX5_house_48 : decode cX5_house 48 = .ok (.aload_n 0, 1) := dk_42 (dk_at dksX5_house_2 0 rfl rfl)
theorem dX5_house_49 : decode cX5_house 49 = .ok (.getfield 37, 3) := dk_180 0 37 (dk_at dksX5_house_2 1 rfl rfl)
theorem dX5_house_52 : decode cX5_house 52 = .ok (.iconst 0, 1) := dk_3 (dk_at dksX5_house_2 4 rfl rfl)
theorem dX5_house_53 : decode cX5_house 53 = .ok (.bipush 24, 2) := dk_16 24 (dk_at dksX5_house_2 5 rfl rfl)
theorem dX5_house_55 : decode cX5_house 55 = .ok (.iastore, 1) := dk_79 (dk_at dksX5_house_2 7 rfl rfl)
theorem dX5_house_56 : decode cX5_house 56 = .ok (.aload_n 0, 1) := dk_42 (dk_at dksX5_house_2 8 rfl rfl)
theorem dX5_house_57 : decode cX5_house 57 = .ok (.invokevirtual 184, 3) := dk_182 0 184 (dk_at dksX5_house_2 9 rfl rfl)
theorem dX5_house_60 : decode cX5_house 60 = .ok (.aload_n 0, 1) := dk_42 (dk_at dksX5_house_2 12 rfl rfl)
theorem dX5_house_61 : decode cX5_house 61 = .ok (.getfield 155, 3) := dk_180 0 155 (dk_at dksX5_house_2 13 rfl rfl)
theorem dX5_house_64 : decode cX5_house 64 = .ok (.ifCond .eq 39, 3) := dk_153 0 39 (dk_at dksX5_house_2 16 rfl rfl)
theorem dX5_house_67 : decode cX5_house 67 = .ok (.aload_n 0, 1) := dk_42 (dk_at dksX5_house_2 19 rfl rfl)
theorem dX5_house_68 : decode cX5_house 68 = .ok (.invokevirtual 235, 3) := dk_182 0 235 (dk_at dksX5_house_2 20 rfl rfl)
theorem dX5_house_71 : decode cX5_house 71 = .ok (.ifCond .eq 12, 3) := dk_153 0 12 (dk_at dksX5_house_3 0 rfl rfl)
theorem dX5_house_74 : decode cX5_house 74 = .ok (.aload_n 0, 1) := dk_42 (dk_at dksX5_house_3 3 rfl rfl)
theorem dX5_house_75 : decode cX5_house 75 = .ok (.bipush 59, 2) := dk_16 59 (dk_at dksX5_house_3 4 rfl rfl)
theorem dX5_house_77 : decode cX5_house 77 = .ok (.invokevirtual 238, 3) := dk_182 0 238 (dk_at dksX5_house_3 6 rfl rfl)
theorem dX5_house_80 : decode cX5_house 80 = .ok (.ifCond .ne 10, 3) := dk_154 0 10 (dk_at dksX5_house_3 9 rfl rfl)
theorem dX5_house_83 : decode cX5_house 83 = .ok (.iconst (-1), 1) := dk_2 (dk_at dksX5_house_3 12 rfl rfl)
theorem dX5_house_84 : decode cX5_house 84 = .ok (.aload_n 0, 1) := dk_42 (dk_at dksX5_house_3 13 rfl rfl)
theorem dX5_house_85 : decode cX5_house 85 = .ok (.getfield 175, 3) := dk_180 0 175 (dk_at dksX5_house_3 14 rfl rfl)
theorem dX5_house_88 : decode cX5_house 88 = .ok (.isub, 1) := dk_100 (dk_at dksX5_house_3 17 rfl rfl)
theorem dX5_house_89 : decode cX5_house 89 = .ok (.ireturn, 1) := dk_172 (dk_at dksX5_house_3 18 rfl rfl)
theorem dX5_house_90 : decode cX5_house 90 = .ok (.aload_n 0, 1) := dk_42 (dk_at dksX5_house_3 19 rfl rfl)
theorem dX5_house_91 : decode cX5_house 91 = .ok (.dup, 1) := dk_89 (dk_at dksX5_house_3 20 rfl rfl)
theorem dX5_house_92 : decode cX5_house 92 = .ok (.getfield 232, 3) := dk_180 0 232 (dk_at dksX5_house_3 21 rfl rfl)
theorem dX5_house_95 : decode cX5_house 95 = .ok (.iconst 1, 1) := dk_4 (dk_at dksX5_house_4 0 rfl rfl)
theorem dX5_house_96 : decode cX5_house 96 = .ok (.iadd, 1) := dk_96 (dk_at dksX5_house_4 1 rfl rfl)
theorem dX5_house_97 : decode cX5_house 97 = .ok (.putfield 232, 3) := dk_181 0 232 (dk_at dksX5_house_4 2 rfl rfl)
theorem dX5_house_100 : decode cX5_house 100 = .ok (.goto (-40), 3) := dk_167 255 216 (dk_at dksX5_house_4 5 rfl rfl)
theorem dX5_house_103 : decode cX5_house 103 = .ok (.iconst 0, 1) := dk_3 (dk_at dksX5_house_4 8 rfl rfl)
theorem dX5_house_104 : decode cX5_house 104 = .ok (.istore_n 1, 1) := dk_60 (dk_at dksX5_house_4 9 rfl rfl)
theorem dX5_house_105 : decode cX5_house 105 = .ok (.iload_n 1, 1) := dk_27 (dk_at dksX5_house_4 10 rfl rfl)
theorem dX5_house_106 : decode cX5_house 106 = .ok (.sipush 657, 3) := dk_17 2 145 (dk_at dksX5_house_4 11 rfl rfl)
theorem dX5_house_109 : decode cX5_house 109 = .ok (.if_icmp .ge 31, 3) := dk_162 0 31 (dk_at dksX5_house_4 14 rfl rfl)
theorem dX5_house_112 : decode cX5_house 112 = .ok (.aload_n 0, 1) := dk_42 (dk_at dksX5_house_4 17 rfl rfl)
theorem dX5_house_113 : decode cX5_house 113 = .ok (.getfield 33, 3) := dk_180 0 33 (dk_at dksX5_house_4 18 rfl rfl)
theorem dX5_house_116 : decode cX5_house 116 = .ok (.iload_n 1, 1) := dk_27 (dk_at dksX5_house_4 21 rfl rfl)
theorem dX5_house_117 : decode cX5_house 117 = .ok (.iload_n 1, 1) := dk_27 (dk_at dksX5_house_4 22 rfl rfl)
theorem dX5_house_118 : decode cX5_house 118 = .ok (.bipush 106, 2) := dk_16 106 (dk_at dksX5_house_5 0 rfl rfl)
theorem dX5_house_120 : decode cX5_house 120 = .ok (.if_icmp .ge 12, 3) := dk_162 0 12 (dk_at dksX5_house_5 2 rfl rfl)
theorem dX5_house_123 : decode cX5_house 123 = .ok (.aload_n 0, 1) := dk_42 (dk_at dksX5_house_5 5 rfl rfl)
theorem dX5_house_124 : decode cX5_house 124 = .ok (.getfield 37, 3) := dk_180 0 37 (dk_at dksX5_house_5 6 rfl rfl)
theorem dX5_house_127 : decode cX5_house 127 = .ok (.iload_n 1, 1) := dk_27 (dk_at dksX5_house_5 9 rfl rfl)
theorem dX5_house_128 : decode cX5_house 128 = .ok (.iaload, 1) := dk_46 (dk_at dksX5_house_5 10 rfl rfl)
theorem dX5_house_129 : decode cX5_house 129 = .ok (.goto 4, 3) := dk_167 0 4 (dk_at dksX5_house_5 11 rfl rfl)
theorem dX5_house_132 : decode cX5_house 132 = .ok (.iconst 0, 1) := dk_3 (dk_at dksX5_house_5 14 rfl rfl)
theorem dX5_house_133 : decode cX5_house 133 = .ok (.iastore, 1) := dk_79 (dk_at dksX5_house_5 15 rfl rfl)
theorem dX5_house_134 : decode cX5_house 134 = .ok (.iinc 1 1, 3) := dk_132 1 1 (dk_at dksX5_house_5 16 rfl rfl)
theorem dX5_house_137 : decode cX5_house 137 = .ok (.goto (-32), 3) := dk_167 255 224 (dk_at dksX5_house_5 19 rfl rfl)
theorem dX5_house_140 : decode cX5_house 140 = .ok (.iconst 0, 1) := dk_3 (dk_at dksX5_house_5 22 rfl rfl)
theorem dX5_house_141 : decode cX5_house 141 = .ok (.istore_n 1, 1) := dk_60 (dk_at dksX5_house_5 23 rfl rfl)
theorem dX5_house_142 : decode cX5_house 142 = .ok (.iload_n 1, 1) := dk_27 (dk_at dksX5_house_6 0 rfl rfl)
theorem dX5_house_143 : decode cX5_house 143 = .ok (.bipush 26, 2) := dk_16 26 (dk_at dksX5_house_6 1 rfl rfl)
theorem dX5_house_145 : decode cX5_house 145 = .ok (.if_icmp .ge 24, 3) := dk_162 0 24 (dk_at dksX5_house_6 3 rfl rfl)
theorem dX5_house_148 : decode cX5_house 148 = .ok (.aload_n 0, 1) := dk_42 (dk_at dksX5_house_6 6 rfl rfl)
theorem dX5_house_149 : decode cX5_house 149 = .ok (.getfield 43, 3) := dk_180 0 43 (dk_at dksX5_house_6 7 rfl rfl)
theorem dX5_house_152 : decode cX5_house 152 = .ok (.iload_n 1, 1) := dk_27 (dk_at dksX5_house_6 10 rfl rfl)
theorem dX5_house_153 : decode cX5_house 153 = .ok (.aload_n 0, 1) := dk_42 (dk_at dksX5_house_6 11 rfl rfl)
theorem dX5_house_154 : decode cX5_house 154 = .ok (.getfield 43, 3) := dk_180 0 43 (dk_at dksX5_house_6 12 rfl rfl)
theorem dX5_house_157 : decode cX5_house 157 = .ok (.bipush 26, 2) := dk_16 26 (dk_at dksX5_house_6 15 rfl rfl)
theorem dX5_house_159 : decode cX5_house 159 = .ok (.iload_n 1, 1) := dk_27 (dk_at dksX5_house_6 17 rfl rfl)
theorem dX5_house_160 : decode cX5_house 160 = .ok (.iadd, 1) := dk_96 (dk_at dksX5_house_6 18 rfl rfl)
theorem dX5_house_161 : decode cX5_house 161 = .ok (.laload, 1) := dk_47 (dk_at dksX5_house_6 19 rfl rfl)
theorem dX5_house_162 : decode cX5_house 162 = .ok (.lastore, 1) := dk_80 (dk_at dksX5_house_6 20 rfl rfl)
theorem dX5_house_163 : decode cX5_house 163 = .ok (.iinc 1 1, 3) := dk_132 1 1 (dk_at dksX5_house_6 21 rfl rfl)
theorem dX5_house_166 : decode cX5_house 166 = .ok (.goto (-24), 3) := dk_167 255 232 (dk_at dksX5_house_7 0 rfl rfl)
theorem dX5_house_169 : decode cX5_house 169 = .ok (.iconst 0, 1) := dk_3 (dk_at dksX5_house_7 3 rfl rfl)
theorem dX5_house_170 : decode cX5_house 170 = .ok (.istore_n 1, 1) := dk_60 (dk_at dksX5_house_7 4 rfl rfl)
theorem dX5_house_171 : decode cX5_house 171 = .ok (.iload_n 1, 1) := dk_27 (dk_at dksX5_house_7 5 rfl rfl)
theorem dX5_house_172 : decode cX5_house 172 = .ok (.iconst 4, 1) := dk_7 (dk_at dksX5_house_7 6 rfl rfl)
theorem dX5_house_173 : decode cX5_house 173 = .ok (.if_icmp .ge 27, 3) := dk_162 0 27 (dk_at dksX5_house_7 7 rfl rfl)
theorem dX5_house_176 : decode cX5_house 176 = .ok (.aload_n 0, 1) := dk_42 (dk_at dksX5_house_7 10 rfl rfl)
theorem dX5_house_177 : decode cX5_house 177 = .ok (.getfield 33, 3) := dk_180 0 33 (dk_at dksX5_house_7 11 rfl rfl)
theorem dX5_house_180 : decode cX5_house 180 = .ok (.bipush 107, 2) := dk_16 107 (dk_at dksX5_house_7 14 rfl rfl)
theorem dX5_house_182 : decode cX5_house 182 = .ok (.iload_n 1, 1) := dk_27 (dk_at dksX5_house_7 16 rfl rfl)
theorem dX5_house_183 : decode cX5_house 183 = .ok (.iadd, 1) := dk_96 (dk_at dksX5_house_7 17 rfl rfl)
theorem dX5_house_184 : decode cX5_house 184 = .ok (.aload_n 0, 1) := dk_42 (dk_at dksX5_house_7 18 rfl rfl)
theorem dX5_house_185 : decode cX5_house 185 = .ok (.getfield 33, 3) := dk_180 0 33 (dk_at dksX5_house_7 19 rfl rfl)
theorem dX5_house_188 : decode cX5_house 188 = .ok (.bipush 22, 2) := dk_16 22 (dk_at dksX5_house_7 22 rfl rfl)
theorem dX5_house_190 : decode cX5_house 190 = .ok (.iload_n 1, 1) := dk_27 (dk_at dksX5_house_8 0 rfl rfl)
theorem dX5_house_191 : decode cX5_house 191 = .ok (.iadd, 1) := dk_96 (dk_at dksX5_house_8 1 rfl rfl)
theorem dX5_house_192 : decode cX5_house 192 = .ok (.iaload, 1) := dk_46 (dk_at dksX5_house_8 2 rfl rfl)
theorem dX5_house_193 : decode cX5_house 193 = .ok (.iastore, 1) := dk_79 (dk_at dksX5_house_8 3 rfl rfl)
theorem dX5_house_194 : decode cX5_house 194 = .ok (.iinc 1 1, 3) := dk_132 1 1 (dk_at dksX5_house_8 4 rfl rfl)
theorem dX5_house_197 : decode cX5_house 197 = .ok (.goto (-26), 3) := dk_167 255 230 (dk_at dksX5_house_8 7 rfl rfl)
theorem dX5_house_200 : decode cX5_house 200 = .ok (.aload_n 0, 1) := dk_42 (dk_at dksX5_house_8 10 rfl rfl)
theorem dX5_house_201 : decode cX5_house 201 = .ok (.iconst 0, 1) := dk_3 (dk_at dksX5_house_8 11 rfl rfl)
theorem dX5_house_202 : decode cX5_house 202 = .ok (.putfield 241, 3) := dk_181 0 241 (dk_at dksX5_house_8 12 rfl rfl)
theorem dX5_house_205 : decode cX5_house 205 = .ok (.aload_n 0, 1) := dk_42 (dk_at dksX5_house_8 15 rfl rfl)
theorem dX5_house_206 : decode cX5_house 206 = .ok (.getfield 232, 3) := dk_180 0 232 (dk_at dksX5_house_8 16 rfl rfl)
theorem dX5_house_209 : decode cX5_house 209 = .ok (.ireturn, 1) := dk_172 (dk_at dksX5_house_8 19 rfl rfl)
abbrev cX5_taken : ByteArray := prog_26_method_6_code
def yX5_taken : MethodName := ⟨RX5, "taken", "(I)V"⟩
def dkwX5_taken_0 : List UInt8 := [42, 42, 180, 0, 7, 181, 0, 18, 42, 3, 181, 0, 7, 42, 3, 181, 0, 21, 42, 27, 181, 0, 24, 177]
abbrev dktX5_taken_0 : List UInt8 := dkwX5_taken_0 ++ []
theorem dksX5_taken_0 : cX5_taken.data.toList.drop 0 = dktX5_taken_0 := by decide +kernel
theorem dX5_taken_0 : decode cX5_taken 0 = .ok (.aload_n 0, 1) := dk_42 (dk_at dksX5_taken_0 0 rfl rfl)
theorem dX5_taken_1 : decode cX5_taken 1 = .ok (.aload_n 0, 1) := dk_42 (dk_at dksX5_taken_0 1 rfl rfl)
theorem dX5_taken_2 : decode cX5_taken 2 = .ok (.getfield 7, 3) := dk_180 0 7 (dk_at dksX5_taken_0 2 rfl rfl)
theorem dX5_taken_5 : decode cX5_taken 5 = .ok (.putfield 18, 3) := dk_181 0 18 (dk_at dksX5_taken_0 5 rfl rfl)
theorem dX5_taken_8 : decode cX5_taken 8 = .ok (.aload_n 0, 1) := dk_42 (dk_at dksX5_taken_0 8 rfl rfl)
theorem dX5_taken_9 : decode cX5_taken 9 = .ok (.iconst 0, 1) := dk_3 (dk_at dksX5_taken_0 9 rfl rfl)
theorem dX5_taken_10 : decode cX5_taken 10 = .ok (.putfield 7, 3) := dk_181 0 7 (dk_at dksX5_taken_0 10 rfl rfl)
theorem dX5_taken_13 : decode cX5_taken 13 = .ok (.aload_n 0, 1) := dk_42 (dk_at dksX5_taken_0 13 rfl rfl)
theorem dX5_taken_14 : decode cX5_taken 14 = .ok (.iconst 0, 1) := dk_3 (dk_at dksX5_taken_0 14 rfl rfl)
theorem dX5_taken_15 : decode cX5_taken 15 = .ok (.putfield 21, 3) := dk_181 0 21 (dk_at dksX5_taken_0 15 rfl rfl)
theorem dX5_taken_18 : decode cX5_taken 18 = .ok (.aload_n 0, 1) := dk_42 (dk_at dksX5_taken_0 18 rfl rfl)
theorem dX5_taken_19 : decode cX5_taken 19 = .ok (.iload_n 1, 1) := dk_27 (dk_at dksX5_taken_0 19 rfl rfl)
theorem dX5_taken_20 : decode cX5_taken 20 = .ok (.putfield 24, 3) := dk_181 0 24 (dk_at dksX5_taken_0 20 rfl rfl)
theorem dX5_taken_23 : decode cX5_taken 23 = .ok (.return_, 1) := dk_177 (dk_at dksX5_taken_0 23 rfl rfl)
abbrev cX5_next : ByteArray := prog_26_method_15_code
def yX5_next : MethodName := ⟨RX5, "next", "()V"⟩
def dkwX5_next_14 : List UInt8 := [4, 167, 0, 4, 5, 181, 0, 155, 177]
abbrev dktX5_next_14 : List UInt8 := dkwX5_next_14 ++ []
def dkwX5_next_13 : List UInt8 := [180, 0, 152, 28, 153, 0, 8, 16, 7, 167, 0, 4, 6, 164, 0, 7, 7, 167, 0, 12, 28, 153, 0, 7]
abbrev dktX5_next_13 : List UInt8 := dkwX5_next_13 ++ dktX5_next_14
def dkwX5_next_12 : List UInt8 := [181, 0, 152, 42, 89, 180, 0, 21, 4, 96, 181, 0, 21, 167, 255, 142, 42, 29, 153, 0, 20, 42]
abbrev dktX5_next_12 : List UInt8 := dkwX5_next_12 ++ dktX5_next_13
def dkwX5_next_11 : List UInt8 := [180, 0, 165, 104, 42, 182, 0, 145, 96, 16, 48, 100, 181, 0, 165, 42, 89, 180, 0, 152, 4, 96]
abbrev dktX5_next_11 : List UInt8 := dkwX5_next_11 ++ dktX5_next_12
def dkwX5_next_10 : List UInt8 := [16, 8, 121, 42, 182, 0, 145, 133, 129, 181, 0, 168, 42, 180, 0, 152, 6, 162, 0, 22, 42, 16, 10, 42]
abbrev dktX5_next_10 : List UInt8 := dkwX5_next_10 ++ dktX5_next_11
def dkwX5_next_9 : List UInt8 := [28, 160, 0, 7, 4, 167, 0, 4, 3, 62, 42, 180, 0, 152, 16, 7, 162, 0, 20, 42, 42, 180, 0, 168]
abbrev dktX5_next_9 : List UInt8 := dkwX5_next_9 ++ dktX5_next_10
def dkwX5_next_8 : List UInt8 := [154, 0, 13, 42, 182, 0, 145, 184, 0, 162, 153, 0, 100, 29, 153, 0, 18, 42, 182, 0, 145, 184, 0, 158]
abbrev dktX5_next_8 : List UInt8 := dkwX5_next_8 ++ dktX5_next_9
def dkwX5_next_7 : List UInt8 := [184, 0, 158, 61, 4, 62, 42, 9, 181, 0, 168, 42, 3, 181, 0, 165, 42, 182, 0, 145, 184, 0, 158]
abbrev dktX5_next_7 : List UInt8 := dkwX5_next_7 ++ dktX5_next_8
def dkwX5_next_6 : List UInt8 := [167, 0, 4, 7, 181, 0, 155, 42, 27, 181, 0, 165, 42, 89, 180, 0, 21, 4, 96, 181, 0, 21, 177, 27]
abbrev dktX5_next_6 : List UInt8 := dkwX5_next_6 ++ dktX5_next_7
def dkwX5_next_5 : List UInt8 := [159, 0, 21, 27, 16, 41, 159, 0, 15, 27, 16, 60, 161, 0, 13, 27, 16, 62, 163, 0, 7, 6]
abbrev dktX5_next_5 : List UInt8 := dkwX5_next_5 ++ dktX5_next_6
def dkwX5_next_4 : List UInt8 := [27, 184, 0, 158, 154, 0, 65, 27, 184, 0, 162, 154, 0, 58, 42, 27, 16, 59, 159, 0, 27, 27, 16, 40]
abbrev dktX5_next_4 : List UInt8 := dkwX5_next_4 ++ dktX5_next_5
def dkwX5_next_3 : List UInt8 := [181, 0, 149, 42, 7, 181, 0, 155, 177, 42, 182, 0, 145, 60, 27, 156, 0, 9, 42, 3, 181, 0, 155, 177]
abbrev dktX5_next_3 : List UInt8 := dkwX5_next_3 ++ dktX5_next_4
def dkwX5_next_2 : List UInt8 := [42, 180, 0, 24, 164, 0, 28, 42, 180, 0, 21, 42, 180, 0, 24, 161, 0, 17, 42, 42, 180, 0, 24]
abbrev dktX5_next_2 : List UInt8 := dkwX5_next_2 ++ dktX5_next_3
def dkwX5_next_1 : List UInt8 := [96, 181, 0, 21, 167, 255, 228, 42, 42, 180, 0, 21, 181, 0, 149, 42, 3, 181, 0, 152, 42, 180, 0, 18]
abbrev dktX5_next_1 : List UInt8 := dkwX5_next_1 ++ dktX5_next_2
def dkwX5_next_0 : List UInt8 := [42, 182, 0, 145, 16, 32, 159, 0, 12, 42, 182, 0, 145, 16, 10, 160, 0, 16, 42, 89, 180, 0, 21, 4]
abbrev dktX5_next_0 : List UInt8 := dkwX5_next_0 ++ dktX5_next_1
theorem dksX5_next_0 : cX5_next.data.toList.drop 0 = dktX5_next_0 := by decide +kernel
theorem dksX5_next_1 : cX5_next.data.toList.drop 24 = dktX5_next_1 := dk_seg dksX5_next_0 24 rfl rfl
theorem dksX5_next_2 : cX5_next.data.toList.drop 48 = dktX5_next_2 := dk_seg dksX5_next_1 24 rfl rfl
theorem dksX5_next_3 : cX5_next.data.toList.drop 71 = dktX5_next_3 := dk_seg dksX5_next_2 23 rfl rfl
theorem dksX5_next_4 : cX5_next.data.toList.drop 95 = dktX5_next_4 := dk_seg dksX5_next_3 24 rfl rfl
theorem dksX5_next_5 : cX5_next.data.toList.drop 119 = dktX5_next_5 := dk_seg dksX5_next_4 24 rfl rfl
theorem dksX5_next_6 : cX5_next.data.toList.drop 141 = dktX5_next_6 := dk_seg dksX5_next_5 22 rfl rfl
theorem dksX5_next_7 : cX5_next.data.toList.drop 165 = dktX5_next_7 := dk_seg dksX5_next_6 24 rfl rfl
theorem dksX5_next_8 : cX5_next.data.toList.drop 188 = dktX5_next_8 := dk_seg dksX5_next_7 23 rfl rfl
theorem dksX5_next_9 : cX5_next.data.toList.drop 212 = dktX5_next_9 := dk_seg dksX5_next_8 24 rfl rfl
theorem dksX5_next_10 : cX5_next.data.toList.drop 236 = dktX5_next_10 := dk_seg dksX5_next_9 24 rfl rfl
theorem dksX5_next_11 : cX5_next.data.toList.drop 260 = dktX5_next_11 := dk_seg dksX5_next_10 24 rfl rfl
theorem dksX5_next_12 : cX5_next.data.toList.drop 282 = dktX5_next_12 := dk_seg dksX5_next_11 22 rfl rfl
theorem dksX5_next_13 : cX5_next.data.toList.drop 304 = dktX5_next_13 := dk_seg dksX5_next_12 22 rfl rfl
theorem dksX5_next_14 : cX5_next.data.toList.drop 328 = dktX5_next_14 := dk_seg dksX5_next_13 24 rfl rfl
theorem dX5_next_0 : decode cX5_next 0 = .ok (.aload_n 0, 1) := dk_42 (dk_at dksX5_next_0 0 rfl rfl)
theorem dX5_next_1 : decode cX5_next 1 = .ok (.invokevirtual 145, 3) := dk_182 0 145 (dk_at dksX5_next_0 1 rfl rfl)
theorem dX5_next_4 : decode cX5_next 4 = .ok (.bipush 32, 2) := dk_16 32 (dk_at dksX5_next_0 4 rfl rfl)
theorem dX5_next_6 : decode cX5_next 6 = .ok (.if_icmp .eq 12, 3) := dk_159 0 12 (dk_at dksX5_next_0 6 rfl rfl)
theorem dX5_next_9 : decode cX5_next 9 = .ok (.aload_n 0, 1) := dk_42 (dk_at dksX5_next_0 9 rfl rfl)
theorem dX5_next_10 : decode cX5_next 10 = .ok (.invokevirtual 145, 3) := dk_182 0 145 (dk_at dksX5_next_0 10 rfl rfl)
theorem dX5_next_13 : decode cX5_next 13 = .ok (.bipush 10, 2) := dk_16 10 (dk_at dksX5_next_0 13 rfl rfl)
theorem dX5_next_15 : decode cX5_next 15 = .ok (.if_icmp .ne 16, 3) := dk_160 0 16 (dk_at dksX5_next_0 15 rfl rfl)
theorem dX5_next_18 : decode cX5_next 18 = .ok (.aload_n 0, 1) := dk_42 (dk_at dksX5_next_0 18 rfl rfl)
theorem dX5_next_19 : decode cX5_next 19 = .ok (.dup, 1) := dk_89 (dk_at dksX5_next_0 19 rfl rfl)
theorem dX5_next_20 : decode cX5_next 20 = .ok (.getfield 21, 3) := dk_180 0 21 (dk_at dksX5_next_0 20 rfl rfl)
theorem dX5_next_23 : decode cX5_next 23 = .ok (.iconst 1, 1) := dk_4 (dk_at dksX5_next_0 23 rfl rfl)
theorem dX5_next_24 : decode cX5_next 24 = .ok (.iadd, 1) := dk_96 (dk_at dksX5_next_1 0 rfl rfl)
theorem dX5_next_25 : decode cX5_next 25 = .ok (.putfield 21, 3) := dk_181 0 21 (dk_at dksX5_next_1 1 rfl rfl)
theorem dX5_next_28 : decode cX5_next 28 = .ok (.goto (-28), 3) := dk_167 255 228 (dk_at dksX5_next_1 4 rfl rfl)
theorem dX5_next_31 : decode cX5_next 31 = .ok (.aload_n 0, 1) := dk_42 (dk_at dksX5_next_1 7 rfl rfl)
theorem dX5_next_32 : decode cX5_next 32 = .ok (.aload_n 0, 1) := dk_42 (dk_at dksX5_next_1 8 rfl rfl)
theorem dX5_next_33 : decode cX5_next 33 = .ok (.getfield 21, 3) := dk_180 0 21 (dk_at dksX5_next_1 9 rfl rfl)
theorem dX5_next_36 : decode cX5_next 36 = .ok (.putfield 149, 3) := dk_181 0 149 (dk_at dksX5_next_1 12 rfl rfl)
theorem dX5_next_39 : decode cX5_next 39 = .ok (.aload_n 0, 1) := dk_42 (dk_at dksX5_next_1 15 rfl rfl)
theorem dX5_next_40 : decode cX5_next 40 = .ok (.iconst 0, 1) := dk_3 (dk_at dksX5_next_1 16 rfl rfl)
theorem dX5_next_41 : decode cX5_next 41 = .ok (.putfield 152, 3) := dk_181 0 152 (dk_at dksX5_next_1 17 rfl rfl)
theorem dX5_next_44 : decode cX5_next 44 = .ok (.aload_n 0, 1) := dk_42 (dk_at dksX5_next_1 20 rfl rfl)
theorem dX5_next_45 : decode cX5_next 45 = .ok (.getfield 18, 3) := dk_180 0 18 (dk_at dksX5_next_1 21 rfl rfl)
theorem dX5_next_48 : decode cX5_next 48 = .ok (.aload_n 0, 1) := dk_42 (dk_at dksX5_next_2 0 rfl rfl)
theorem dX5_next_49 : decode cX5_next 49 = .ok (.getfield 24, 3) := dk_180 0 24 (dk_at dksX5_next_2 1 rfl rfl)
theorem dX5_next_52 : decode cX5_next 52 = .ok (.if_icmp .le 28, 3) := dk_164 0 28 (dk_at dksX5_next_2 4 rfl rfl)
theorem dX5_next_55 : decode cX5_next 55 = .ok (.aload_n 0, 1) := dk_42 (dk_at dksX5_next_2 7 rfl rfl)
theorem dX5_next_56 : decode cX5_next 56 = .ok (.getfield 21, 3) := dk_180 0 21 (dk_at dksX5_next_2 8 rfl rfl)
theorem dX5_next_59 : decode cX5_next 59 = .ok (.aload_n 0, 1) := dk_42 (dk_at dksX5_next_2 11 rfl rfl)
theorem dX5_next_60 : decode cX5_next 60 = .ok (.getfield 24, 3) := dk_180 0 24 (dk_at dksX5_next_2 12 rfl rfl)
theorem dX5_next_63 : decode cX5_next 63 = .ok (.if_icmp .lt 17, 3) := dk_161 0 17 (dk_at dksX5_next_2 15 rfl rfl)
theorem dX5_next_66 : decode cX5_next 66 = .ok (.aload_n 0, 1) := dk_42 (dk_at dksX5_next_2 18 rfl rfl)
theorem dX5_next_67 : decode cX5_next 67 = .ok (.aload_n 0, 1) := dk_42 (dk_at dksX5_next_2 19 rfl rfl)
theorem dX5_next_68 : decode cX5_next 68 = .ok (.getfield 24, 3) := dk_180 0 24 (dk_at dksX5_next_2 20 rfl rfl)
theorem dX5_next_71 : decode cX5_next 71 = .ok (.putfield 149, 3) := dk_181 0 149 (dk_at dksX5_next_3 0 rfl rfl)
theorem dX5_next_74 : decode cX5_next 74 = .ok (.aload_n 0, 1) := dk_42 (dk_at dksX5_next_3 3 rfl rfl)
theorem dX5_next_75 : decode cX5_next 75 = .ok (.iconst 4, 1) := dk_7 (dk_at dksX5_next_3 4 rfl rfl)
theorem dX5_next_76 : decode cX5_next 76 = .ok (.putfield 155, 3) := dk_181 0 155 (dk_at dksX5_next_3 5 rfl rfl)
theorem dX5_next_79 : decode cX5_next 79 = .ok (.return_, 1) := dk_177 (dk_at dksX5_next_3 8 rfl rfl)
theorem dX5_next_80 : decode cX5_next 80 = .ok (.aload_n 0, 1) := dk_42 (dk_at dksX5_next_3 9 rfl rfl)
theorem dX5_next_81 : decode cX5_next 81 = .ok (.invokevirtual 145, 3) := dk_182 0 145 (dk_at dksX5_next_3 10 rfl rfl)
theorem dX5_next_84 : decode cX5_next 84 = .ok (.istore_n 1, 1) := dk_60 (dk_at dksX5_next_3 13 rfl rfl)
theorem dX5_next_85 : decode cX5_next 85 = .ok (.iload_n 1, 1) := dk_27 (dk_at dksX5_next_3 14 rfl rfl)
theorem dX5_next_86 : decode cX5_next 86 = .ok (.ifCond .ge 9, 3) := dk_156 0 9 (dk_at dksX5_next_3 15 rfl rfl)
theorem dX5_next_89 : decode cX5_next 89 = .ok (.aload_n 0, 1) := dk_42 (dk_at dksX5_next_3 18 rfl rfl)
theorem dX5_next_90 : decode cX5_next 90 = .ok (.iconst 0, 1) := dk_3 (dk_at dksX5_next_3 19 rfl rfl)
theorem dX5_next_91 : decode cX5_next 91 = .ok (.putfield 155, 3) := dk_181 0 155 (dk_at dksX5_next_3 20 rfl rfl)
theorem dX5_next_94 : decode cX5_next 94 = .ok (.return_, 1) := dk_177 (dk_at dksX5_next_3 23 rfl rfl)
theorem dX5_next_95 : decode cX5_next 95 = .ok (.iload_n 1, 1) := dk_27 (dk_at dksX5_next_4 0 rfl rfl)
theorem dX5_next_96 : decode cX5_next 96 = .ok (.invokestatic 158, 3) := dk_184 0 158 (dk_at dksX5_next_4 1 rfl rfl)
theorem dX5_next_99 : decode cX5_next 99 = .ok (.ifCond .ne 65, 3) := dk_154 0 65 (dk_at dksX5_next_4 4 rfl rfl)
theorem dX5_next_102 : decode cX5_next 102 = .ok (.iload_n 1, 1) := dk_27 (dk_at dksX5_next_4 7 rfl rfl)
theorem dX5_next_103 : decode cX5_next 103 = .ok (.invokestatic 162, 3) := dk_184 0 162 (dk_at dksX5_next_4 8 rfl rfl)
theorem dX5_next_106 : decode cX5_next 106 = .ok (.ifCond .ne 58, 3) := dk_154 0 58 (dk_at dksX5_next_4 11 rfl rfl)
theorem dX5_next_109 : decode cX5_next 109 = .ok (.aload_n 0, 1) := dk_42 (dk_at dksX5_next_4 14 rfl rfl)
theorem dX5_next_110 : decode cX5_next 110 = .ok (.iload_n 1, 1) := dk_27 (dk_at dksX5_next_4 15 rfl rfl)
theorem dX5_next_111 : decode cX5_next 111 = .ok (.bipush 59, 2) := dk_16 59 (dk_at dksX5_next_4 16 rfl rfl)
theorem dX5_next_113 : decode cX5_next 113 = .ok (.if_icmp .eq 27, 3) := dk_159 0 27 (dk_at dksX5_next_4 18 rfl rfl)
theorem dX5_next_116 : decode cX5_next 116 = .ok (.iload_n 1, 1) := dk_27 (dk_at dksX5_next_4 21 rfl rfl)
theorem dX5_next_117 : decode cX5_next 117 = .ok (.bipush 40, 2) := dk_16 40 (dk_at dksX5_next_4 22 rfl rfl)
theorem dX5_next_119 : decode cX5_next 119 = .ok (.if_icmp .eq 21, 3) := dk_159 0 21 (dk_at dksX5_next_5 0 rfl rfl)
theorem dX5_next_122 : decode cX5_next 122 = .ok (.iload_n 1, 1) := dk_27 (dk_at dksX5_next_5 3 rfl rfl)
theorem dX5_next_123 : decode cX5_next 123 = .ok (.bipush 41, 2) := dk_16 41 (dk_at dksX5_next_5 4 rfl rfl)
theorem dX5_next_125 : decode cX5_next 125 = .ok (.if_icmp .eq 15, 3) := dk_159 0 15 (dk_at dksX5_next_5 6 rfl rfl)
theorem dX5_next_128 : decode cX5_next 128 = .ok (.iload_n 1, 1) := dk_27 (dk_at dksX5_next_5 9 rfl rfl)
theorem dX5_next_129 : decode cX5_next 129 = .ok (.bipush 60, 2) := dk_16 60 (dk_at dksX5_next_5 10 rfl rfl)
theorem dX5_next_131 : decode cX5_next 131 = .ok (.if_icmp .lt 13, 3) := dk_161 0 13 (dk_at dksX5_next_5 12 rfl rfl)
theorem dX5_next_134 : decode cX5_next 134 = .ok (.iload_n 1, 1) := dk_27 (dk_at dksX5_next_5 15 rfl rfl)
theorem dX5_next_135 : decode cX5_next 135 = .ok (.bipush 62, 2) := dk_16 62 (dk_at dksX5_next_5 16 rfl rfl)
theorem dX5_next_137 : decode cX5_next 137 = .ok (.if_icmp .gt 7, 3) := dk_163 0 7 (dk_at dksX5_next_5 18 rfl rfl)
theorem dX5_next_140 : decode cX5_next 140 = .ok (.iconst 3, 1) := dk_6 (dk_at dksX5_next_5 21 rfl rfl)
theorem dX5_next_141 : decode cX5_next 141 = .ok (.goto 4, 3) := dk_167 0 4 (dk_at dksX5_next_6 0 rfl rfl)
theorem dX5_next_144 : decode cX5_next 144 = .ok (.iconst 4, 1) := dk_7 (dk_at dksX5_next_6 3 rfl rfl)
theorem dX5_next_145 : decode cX5_next 145 = .ok (.putfield 155, 3) := dk_181 0 155 (dk_at dksX5_next_6 4 rfl rfl)
theorem dX5_next_148 : decode cX5_next 148 = .ok (.aload_n 0, 1) := dk_42 (dk_at dksX5_next_6 7 rfl rfl)
theorem dX5_next_149 : decode cX5_next 149 = .ok (.iload_n 1, 1) := dk_27 (dk_at dksX5_next_6 8 rfl rfl)
theorem dX5_next_150 : decode cX5_next 150 = .ok (.putfield 165, 3) := dk_181 0 165 (dk_at dksX5_next_6 9 rfl rfl)
theorem dX5_next_153 : decode cX5_next 153 = .ok (.aload_n 0, 1) := dk_42 (dk_at dksX5_next_6 12 rfl rfl)
theorem dX5_next_154 : decode cX5_next 154 = .ok (.dup, 1) := dk_89 (dk_at dksX5_next_6 13 rfl rfl)
theorem dX5_next_155 : decode cX5_next 155 = .ok (.getfield 21, 3) := dk_180 0 21 (dk_at dksX5_next_6 14 rfl rfl)
theorem dX5_next_158 : decode cX5_next 158 = .ok (.iconst 1, 1) := dk_4 (dk_at dksX5_next_6 17 rfl rfl)
theorem dX5_next_159 : decode cX5_next 159 = .ok (.iadd, 1) := dk_96 (dk_at dksX5_next_6 18 rfl rfl)
theorem dX5_next_160 : decode cX5_next 160 = .ok (.putfield 21, 3) := dk_181 0 21 (dk_at dksX5_next_6 19 rfl rfl)
theorem dX5_next_163 : decode cX5_next 163 = .ok (.return_, 1) := dk_177 (dk_at dksX5_next_6 22 rfl rfl)
theorem dX5_next_164 : decode cX5_next 164 = .ok (.iload_n 1, 1) := dk_27 (dk_at dksX5_next_6 23 rfl rfl)
theorem dX5_next_165 : decode cX5_next 165 = .ok (.invokestatic 158, 3) := dk_184 0 158 (dk_at dksX5_next_7 0 rfl rfl)
theorem dX5_next_168 : decode cX5_next 168 = .ok (.istore_n 2, 1) := dk_61 (dk_at dksX5_next_7 3 rfl rfl)
theorem dX5_next_169 : decode cX5_next 169 = .ok (.iconst 1, 1) := dk_4 (dk_at dksX5_next_7 4 rfl rfl)
theorem dX5_next_170 : decode cX5_next 170 = .ok (.istore_n 3, 1) := dk_62 (dk_at dksX5_next_7 5 rfl rfl)
theorem dX5_next_171 : decode cX5_next 171 = .ok (.aload_n 0, 1) := dk_42 (dk_at dksX5_next_7 6 rfl rfl)
theorem dX5_next_172 : decode cX5_next 172 = .ok (.lconst 0, 1) := dk_9 (dk_at dksX5_next_7 7 rfl rfl)
theorem dX5_next_173 : decode cX5_next 173 = .ok (.putfield 168, 3) := dk_181 0 168 (dk_at dksX5_next_7 8 rfl rfl)
theorem dX5_next_176 : decode cX5_next 176 = .ok (.aload_n 0, 1) := dk_42 (dk_at dksX5_next_7 11 rfl rfl)
theorem dX5_next_177 : decode cX5_next 177 = .ok (.iconst 0, 1) := dk_3 (dk_at dksX5_next_7 12 rfl rfl)
theorem dX5_next_178 : decode cX5_next 178 = .ok (.putfield 165, 3) := dk_181 0 165 (dk_at dksX5_next_7 13 rfl rfl)
theorem dX5_next_181 : decode cX5_next 181 = .ok (.aload_n 0, 1) := dk_42 (dk_at dksX5_next_7 16 rfl rfl)
theorem dX5_next_182 : decode cX5_next 182 = .ok (.invokevirtual 145, 3) := dk_182 0 145 (dk_at dksX5_next_7 17 rfl rfl)
theorem dX5_next_185 : decode cX5_next 185 = .ok (.invokestatic 158, 3) := dk_184 0 158 (dk_at dksX5_next_7 20 rfl rfl)
theorem dX5_next_188 : decode cX5_next 188 = .ok (.ifCond .ne 13, 3) := dk_154 0 13 (dk_at dksX5_next_8 0 rfl rfl)
theorem dX5_next_191 : decode cX5_next 191 = .ok (.aload_n 0, 1) := dk_42 (dk_at dksX5_next_8 3 rfl rfl)
theorem dX5_next_192 : decode cX5_next 192 = .ok (.invokevirtual 145, 3) := dk_182 0 145 (dk_at dksX5_next_8 4 rfl rfl)
theorem dX5_next_195 : decode cX5_next 195 = .ok (.invokestatic 162, 3) := dk_184 0 162 (dk_at dksX5_next_8 7 rfl rfl)
theorem dX5_next_198 : decode cX5_next 198 = .ok (.ifCond .eq 100, 3) := dk_153 0 100 (dk_at dksX5_next_8 10 rfl rfl)
theorem dX5_next_201 : decode cX5_next 201 = .ok (.iload_n 3, 1) := dk_29 (dk_at dksX5_next_8 13 rfl rfl)
theorem dX5_next_202 : decode cX5_next 202 = .ok (.ifCond .eq 18, 3) := dk_153 0 18 (dk_at dksX5_next_8 14 rfl rfl)
theorem dX5_next_205 : decode cX5_next 205 = .ok (.aload_n 0, 1) := dk_42 (dk_at dksX5_next_8 17 rfl rfl)
theorem dX5_next_206 : decode cX5_next 206 = .ok (.invokevirtual 145, 3) := dk_182 0 145 (dk_at dksX5_next_8 18 rfl rfl)
theorem dX5_next_209 : decode cX5_next 209 = .ok (.invokestatic 158, 3) := dk_184 0 158 (dk_at dksX5_next_8 21 rfl rfl)
theorem dX5_next_212 : decode cX5_next 212 = .ok (.iload_n 2, 1) := dk_28 (dk_at dksX5_next_9 0 rfl rfl)
theorem dX5_next_213 : decode cX5_next 213 = .ok (.if_icmp .ne 7, 3) := dk_160 0 7 (dk_at dksX5_next_9 1 rfl rfl)
theorem dX5_next_216 : decode cX5_next 216 = .ok (.iconst 1, 1) := dk_4 (dk_at dksX5_next_9 4 rfl rfl)
theorem dX5_next_217 : decode cX5_next 217 = .ok (.goto 4, 3) := dk_167 0 4 (dk_at dksX5_next_9 5 rfl rfl)
theorem dX5_next_220 : decode cX5_next 220 = .ok (.iconst 0, 1) := dk_3 (dk_at dksX5_next_9 8 rfl rfl)
theorem dX5_next_221 : decode cX5_next 221 = .ok (.istore_n 3, 1) := dk_62 (dk_at dksX5_next_9 9 rfl rfl)
theorem dX5_next_222 : decode cX5_next 222 = .ok (.aload_n 0, 1) := dk_42 (dk_at dksX5_next_9 10 rfl rfl)
theorem dX5_next_223 : decode cX5_next 223 = .ok (.getfield 152, 3) := dk_180 0 152 (dk_at dksX5_next_9 11 rfl rfl)
theorem dX5_next_226 : decode cX5_next 226 = .ok (.bipush 7, 2) := dk_16 7 (dk_at dksX5_next_9 14 rfl rfl)
theorem dX5_next_228 : decode cX5_next 228 = .ok (.if_icmp .ge 20, 3) := dk_162 0 20 (dk_at dksX5_next_9 16 rfl rfl)
theorem dX5_next_231 : decode cX5_next 231 = .ok (.aload_n 0, 1) := dk_42 (dk_at dksX5_next_9 19 rfl rfl)
theorem dX5_next_232 : decode cX5_next 232 = .ok (.aload_n 0, 1) := dk_42 (dk_at dksX5_next_9 20 rfl rfl)
theorem dX5_next_233 : decode cX5_next 233 = .ok (.getfield 168, 3) := dk_180 0 168 (dk_at dksX5_next_9 21 rfl rfl)
theorem dX5_next_236 : decode cX5_next 236 = .ok (.bipush 8, 2) := dk_16 8 (dk_at dksX5_next_10 0 rfl rfl)
theorem dX5_next_238 : decode cX5_next 238 = .ok (.lshl, 1) := dk_121 (dk_at dksX5_next_10 2 rfl rfl)
theorem dX5_next_239 : decode cX5_next 239 = .ok (.aload_n 0, 1) := dk_42 (dk_at dksX5_next_10 3 rfl rfl)
theorem dX5_next_240 : decode cX5_next 240 = .ok (.invokevirtual 145, 3) := dk_182 0 145 (dk_at dksX5_next_10 4 rfl rfl)
theorem dX5_next_243 : decode cX5_next 243 = .ok (.i2l, 1) := dk_133 (dk_at dksX5_next_10 7 rfl rfl)
theorem dX5_next_244 : decode cX5_next 244 = .ok (.lor, 1) := dk_129 (dk_at dksX5_next_10 8 rfl rfl)
theorem dX5_next_245 : decode cX5_next 245 = .ok (.putfield 168, 3) := dk_181 0 168 (dk_at dksX5_next_10 9 rfl rfl)
theorem dX5_next_248 : decode cX5_next 248 = .ok (.aload_n 0, 1) := dk_42 (dk_at dksX5_next_10 12 rfl rfl)
theorem dX5_next_249 : decode cX5_next 249 = .ok (.getfield 152, 3) := dk_180 0 152 (dk_at dksX5_next_10 13 rfl rfl)
theorem dX5_next_252 : decode cX5_next 252 = .ok (.iconst 3, 1) := dk_6 (dk_at dksX5_next_10 16 rfl rfl)
theorem dX5_next_253 : decode cX5_next 253 = .ok (.if_icmp .ge 22, 3) := dk_162 0 22 (dk_at dksX5_next_10 17 rfl rfl)
theorem dX5_next_256 : decode cX5_next 256 = .ok (.aload_n 0, 1) := dk_42 (dk_at dksX5_next_10 20 rfl rfl)
theorem dX5_next_257 : decode cX5_next 257 = .ok (.bipush 10, 2) := dk_16 10 (dk_at dksX5_next_10 21 rfl rfl)
theorem dX5_next_259 : decode cX5_next 259 = .ok (.aload_n 0, 1) := dk_42 (dk_at dksX5_next_10 23 rfl rfl)
theorem dX5_next_260 : decode cX5_next 260 = .ok (.getfield 165, 3) := dk_180 0 165 (dk_at dksX5_next_11 0 rfl rfl)
theorem dX5_next_263 : decode cX5_next 263 = .ok (.imul, 1) := dk_104 (dk_at dksX5_next_11 3 rfl rfl)
theorem dX5_next_264 : decode cX5_next 264 = .ok (.aload_n 0, 1) := dk_42 (dk_at dksX5_next_11 4 rfl rfl)
theorem dX5_next_265 : decode cX5_next 265 = .ok (.invokevirtual 145, 3) := dk_182 0 145 (dk_at dksX5_next_11 5 rfl rfl)
theorem dX5_next_268 : decode cX5_next 268 = .ok (.iadd, 1) := dk_96 (dk_at dksX5_next_11 8 rfl rfl)
theorem dX5_next_269 : decode cX5_next 269 = .ok (.bipush 48, 2) := dk_16 48 (dk_at dksX5_next_11 9 rfl rfl)
theorem dX5_next_271 : decode cX5_next 271 = .ok (.isub, 1) := dk_100 (dk_at dksX5_next_11 11 rfl rfl)
theorem dX5_next_272 : decode cX5_next 272 = .ok (.putfield 165, 3) := dk_181 0 165 (dk_at dksX5_next_11 12 rfl rfl)
theorem dX5_next_275 : decode cX5_next 275 = .ok (.aload_n 0, 1) := dk_42 (dk_at dksX5_next_11 15 rfl rfl)
theorem dX5_next_276 : decode cX5_next 276 = .ok (.dup, 1) := dk_89 (dk_at dksX5_next_11 16 rfl rfl)
theorem dX5_next_277 : decode cX5_next 277 = .ok (.getfield 152, 3) := dk_180 0 152 (dk_at dksX5_next_11 17 rfl rfl)
theorem dX5_next_280 : decode cX5_next 280 = .ok (.iconst 1, 1) := dk_4 (dk_at dksX5_next_11 20 rfl rfl)
theorem dX5_next_281 : decode cX5_next 281 = .ok (.iadd, 1) := dk_96 (dk_at dksX5_next_11 21 rfl rfl)
theorem dX5_next_282 : decode cX5_next 282 = .ok (.putfield 152, 3) := dk_181 0 152 (dk_at dksX5_next_12 0 rfl rfl)
theorem dX5_next_285 : decode cX5_next 285 = .ok (.aload_n 0, 1) := dk_42 (dk_at dksX5_next_12 3 rfl rfl)
theorem dX5_next_286 : decode cX5_next 286 = .ok (.dup, 1) := dk_89 (dk_at dksX5_next_12 4 rfl rfl)
theorem dX5_next_287 : decode cX5_next 287 = .ok (.getfield 21, 3) := dk_180 0 21 (dk_at dksX5_next_12 5 rfl rfl)
theorem dX5_next_290 : decode cX5_next 290 = .ok (.iconst 1, 1) := dk_4 (dk_at dksX5_next_12 8 rfl rfl)
theorem dX5_next_291 : decode cX5_next 291 = .ok (.iadd, 1) := dk_96 (dk_at dksX5_next_12 9 rfl rfl)
theorem dX5_next_292 : decode cX5_next 292 = .ok (.putfield 21, 3) := dk_181 0 21 (dk_at dksX5_next_12 10 rfl rfl)
theorem dX5_next_295 : decode cX5_next 295 = .ok (.goto (-114), 3) := dk_167 255 142 (dk_at dksX5_next_12 13 rfl rfl)
theorem dX5_next_298 : decode cX5_next 298 = .ok (.aload_n 0, 1) := dk_42 (dk_at dksX5_next_12 16 rfl rfl)
theorem dX5_next_299 : decode cX5_next 299 = .ok (.iload_n 3, 1) := dk_29 (dk_at dksX5_next_12 17 rfl rfl)
theorem dX5_next_300 : decode cX5_next 300 = .ok (.ifCond .eq 20, 3) := dk_153 0 20 (dk_at dksX5_next_12 18 rfl rfl)
theorem dX5_next_303 : decode cX5_next 303 = .ok (.aload_n 0, 1) := dk_42 (dk_at dksX5_next_12 21 rfl rfl)
theorem dX5_next_304 : decode cX5_next 304 = .ok (.getfield 152, 3) := dk_180 0 152 (dk_at dksX5_next_13 0 rfl rfl)
theorem dX5_next_307 : decode cX5_next 307 = .ok (.iload_n 2, 1) := dk_28 (dk_at dksX5_next_13 3 rfl rfl)
theorem dX5_next_308 : decode cX5_next 308 = .ok (.ifCond .eq 8, 3) := dk_153 0 8 (dk_at dksX5_next_13 4 rfl rfl)
theorem dX5_next_311 : decode cX5_next 311 = .ok (.bipush 7, 2) := dk_16 7 (dk_at dksX5_next_13 7 rfl rfl)
theorem dX5_next_313 : decode cX5_next 313 = .ok (.goto 4, 3) := dk_167 0 4 (dk_at dksX5_next_13 9 rfl rfl)
theorem dX5_next_316 : decode cX5_next 316 = .ok (.iconst 3, 1) := dk_6 (dk_at dksX5_next_13 12 rfl rfl)
theorem dX5_next_317 : decode cX5_next 317 = .ok (.if_icmp .le 7, 3) := dk_164 0 7 (dk_at dksX5_next_13 13 rfl rfl)
theorem dX5_next_320 : decode cX5_next 320 = .ok (.iconst 4, 1) := dk_7 (dk_at dksX5_next_13 16 rfl rfl)
theorem dX5_next_321 : decode cX5_next 321 = .ok (.goto 12, 3) := dk_167 0 12 (dk_at dksX5_next_13 17 rfl rfl)
theorem dX5_next_324 : decode cX5_next 324 = .ok (.iload_n 2, 1) := dk_28 (dk_at dksX5_next_13 20 rfl rfl)
theorem dX5_next_325 : decode cX5_next 325 = .ok (.ifCond .eq 7, 3) := dk_153 0 7 (dk_at dksX5_next_13 21 rfl rfl)
theorem dX5_next_328 : decode cX5_next 328 = .ok (.iconst 1, 1) := dk_4 (dk_at dksX5_next_14 0 rfl rfl)
theorem dX5_next_329 : decode cX5_next 329 = .ok (.goto 4, 3) := dk_167 0 4 (dk_at dksX5_next_14 1 rfl rfl)
theorem dX5_next_332 : decode cX5_next 332 = .ok (.iconst 2, 1) := dk_5 (dk_at dksX5_next_14 4 rfl rfl)
theorem dX5_next_333 : decode cX5_next 333 = .ok (.putfield 155, 3) := dk_181 0 155 (dk_at dksX5_next_14 5 rfl rfl)
theorem dX5_next_336 : decode cX5_next 336 = .ok (.return_, 1) := dk_177 (dk_at dksX5_next_14 8 rfl rfl)
abbrev cX5_peek : ByteArray := prog_26_method_12_code
def yX5_peek : MethodName := ⟨RX5, "peek", "()I"⟩
def dkwX5_peek_1 : List UInt8 := [167, 0, 4, 2, 172]
abbrev dktX5_peek_1 : List UInt8 := dkwX5_peek_1 ++ []
def dkwX5_peek_0 : List UInt8 := [42, 180, 0, 21, 42, 180, 0, 18, 162, 0, 19, 42, 180, 0, 14, 42, 180, 0, 21, 51, 17, 0, 255, 126]
abbrev dktX5_peek_0 : List UInt8 := dkwX5_peek_0 ++ dktX5_peek_1
theorem dksX5_peek_0 : cX5_peek.data.toList.drop 0 = dktX5_peek_0 := by decide +kernel
theorem dksX5_peek_1 : cX5_peek.data.toList.drop 24 = dktX5_peek_1 := dk_seg dksX5_peek_0 24 rfl rfl
theorem dX5_peek_0 : decode cX5_peek 0 = .ok (.aload_n 0, 1) := dk_42 (dk_at dksX5_peek_0 0 rfl rfl)
theorem dX5_peek_1 : decode cX5_peek 1 = .ok (.getfield 21, 3) := dk_180 0 21 (dk_at dksX5_peek_0 1 rfl rfl)
theorem dX5_peek_4 : decode cX5_peek 4 = .ok (.aload_n 0, 1) := dk_42 (dk_at dksX5_peek_0 4 rfl rfl)
theorem dX5_peek_5 : decode cX5_peek 5 = .ok (.getfield 18, 3) := dk_180 0 18 (dk_at dksX5_peek_0 5 rfl rfl)
theorem dX5_peek_8 : decode cX5_peek 8 = .ok (.if_icmp .ge 19, 3) := dk_162 0 19 (dk_at dksX5_peek_0 8 rfl rfl)
theorem dX5_peek_11 : decode cX5_peek 11 = .ok (.aload_n 0, 1) := dk_42 (dk_at dksX5_peek_0 11 rfl rfl)
theorem dX5_peek_12 : decode cX5_peek 12 = .ok (.getfield 14, 3) := dk_180 0 14 (dk_at dksX5_peek_0 12 rfl rfl)
theorem dX5_peek_15 : decode cX5_peek 15 = .ok (.aload_n 0, 1) := dk_42 (dk_at dksX5_peek_0 15 rfl rfl)
theorem dX5_peek_16 : decode cX5_peek 16 = .ok (.getfield 21, 3) := dk_180 0 21 (dk_at dksX5_peek_0 16 rfl rfl)
theorem dX5_peek_19 : decode cX5_peek 19 = .ok (.baload, 1) := dk_51 (dk_at dksX5_peek_0 19 rfl rfl)
theorem dX5_peek_20 : decode cX5_peek 20 = .ok (.sipush 255, 3) := dk_17 0 255 (dk_at dksX5_peek_0 20 rfl rfl)
theorem dX5_peek_23 : decode cX5_peek 23 = .ok (.iand, 1) := dk_126 (dk_at dksX5_peek_0 23 rfl rfl)
theorem dX5_peek_24 : decode cX5_peek 24 = .ok (.goto 4, 3) := dk_167 0 4 (dk_at dksX5_peek_1 0 rfl rfl)
theorem dX5_peek_27 : decode cX5_peek 27 = .ok (.iconst (-1), 1) := dk_2 (dk_at dksX5_peek_1 3 rfl rfl)
theorem dX5_peek_28 : decode cX5_peek 28 = .ok (.ireturn, 1) := dk_172 (dk_at dksX5_peek_1 4 rfl rfl)
abbrev cX5_isSmall : ByteArray := prog_26_method_13_code
def yX5_isSmall : MethodName := ⟨RX5, "isSmall", "(I)Z"⟩
def dkwX5_isSmall_0 : List UInt8 := [26, 16, 97, 161, 0, 13, 26, 16, 122, 163, 0, 7, 4, 167, 0, 4, 3, 172]
abbrev dktX5_isSmall_0 : List UInt8 := dkwX5_isSmall_0 ++ []
theorem dksX5_isSmall_0 : cX5_isSmall.data.toList.drop 0 = dktX5_isSmall_0 := by decide +kernel
theorem dX5_isSmall_0 : decode cX5_isSmall 0 = .ok (.iload_n 0, 1) := dk_26 (dk_at dksX5_isSmall_0 0 rfl rfl)
theorem dX5_isSmall_1 : decode cX5_isSmall 1 = .ok (.bipush 97, 2) := dk_16 97 (dk_at dksX5_isSmall_0 1 rfl rfl)
theorem dX5_isSmall_3 : decode cX5_isSmall 3 = .ok (.if_icmp .lt 13, 3) := dk_161 0 13 (dk_at dksX5_isSmall_0 3 rfl rfl)
theorem dX5_isSmall_6 : decode cX5_isSmall 6 = .ok (.iload_n 0, 1) := dk_26 (dk_at dksX5_isSmall_0 6 rfl rfl)
theorem dX5_isSmall_7 : decode cX5_isSmall 7 = .ok (.bipush 122, 2) := dk_16 122 (dk_at dksX5_isSmall_0 7 rfl rfl)
theorem dX5_isSmall_9 : decode cX5_isSmall 9 = .ok (.if_icmp .gt 7, 3) := dk_163 0 7 (dk_at dksX5_isSmall_0 9 rfl rfl)
theorem dX5_isSmall_12 : decode cX5_isSmall 12 = .ok (.iconst 1, 1) := dk_4 (dk_at dksX5_isSmall_0 12 rfl rfl)
theorem dX5_isSmall_13 : decode cX5_isSmall 13 = .ok (.goto 4, 3) := dk_167 0 4 (dk_at dksX5_isSmall_0 13 rfl rfl)
theorem dX5_isSmall_16 : decode cX5_isSmall 16 = .ok (.iconst 0, 1) := dk_3 (dk_at dksX5_isSmall_0 16 rfl rfl)
theorem dX5_isSmall_17 : decode cX5_isSmall 17 = .ok (.ireturn, 1) := dk_172 (dk_at dksX5_isSmall_0 17 rfl rfl)
abbrev cX5_isDigit : ByteArray := prog_26_method_14_code
def yX5_isDigit : MethodName := ⟨RX5, "isDigit", "(I)Z"⟩
def dkwX5_isDigit_0 : List UInt8 := [26, 16, 48, 161, 0, 13, 26, 16, 57, 163, 0, 7, 4, 167, 0, 4, 3, 172]
abbrev dktX5_isDigit_0 : List UInt8 := dkwX5_isDigit_0 ++ []
theorem dksX5_isDigit_0 : cX5_isDigit.data.toList.drop 0 = dktX5_isDigit_0 := by decide +kernel
theorem dX5_isDigit_0 : decode cX5_isDigit 0 = .ok (.iload_n 0, 1) := dk_26 (dk_at dksX5_isDigit_0 0 rfl rfl)
theorem dX5_isDigit_1 : decode cX5_isDigit 1 = .ok (.bipush 48, 2) := dk_16 48 (dk_at dksX5_isDigit_0 1 rfl rfl)
theorem dX5_isDigit_3 : decode cX5_isDigit 3 = .ok (.if_icmp .lt 13, 3) := dk_161 0 13 (dk_at dksX5_isDigit_0 3 rfl rfl)
theorem dX5_isDigit_6 : decode cX5_isDigit 6 = .ok (.iload_n 0, 1) := dk_26 (dk_at dksX5_isDigit_0 6 rfl rfl)
theorem dX5_isDigit_7 : decode cX5_isDigit 7 = .ok (.bipush 57, 2) := dk_16 57 (dk_at dksX5_isDigit_0 7 rfl rfl)
theorem dX5_isDigit_9 : decode cX5_isDigit 9 = .ok (.if_icmp .gt 7, 3) := dk_163 0 7 (dk_at dksX5_isDigit_0 9 rfl rfl)
theorem dX5_isDigit_12 : decode cX5_isDigit 12 = .ok (.iconst 1, 1) := dk_4 (dk_at dksX5_isDigit_0 12 rfl rfl)
theorem dX5_isDigit_13 : decode cX5_isDigit 13 = .ok (.goto 4, 3) := dk_167 0 4 (dk_at dksX5_isDigit_0 13 rfl rfl)
theorem dX5_isDigit_16 : decode cX5_isDigit 16 = .ok (.iconst 0, 1) := dk_3 (dk_at dksX5_isDigit_0 16 rfl rfl)
theorem dX5_isDigit_17 : decode cX5_isDigit 17 = .ok (.ireturn, 1) := dk_172 (dk_at dksX5_isDigit_0 17 rfl rfl)
abbrev cX5_line : ByteArray := prog_26_method_26_code
def yX5_line : MethodName := ⟨RX5, "line", "()Z"⟩
def dkwX5_line_31 : List UInt8 := [96, 79, 42, 182, 0, 184, 4, 172]
abbrev dktX5_line_31 : List UInt8 := dkwX5_line_31 ++ []
def dkwX5_line_30 : List UInt8 := [16, 98, 42, 180, 0, 37, 16, 7, 46, 96, 42, 180, 0, 191, 79, 42, 180, 0, 37, 16, 7, 92, 46, 4]
abbrev dktX5_line_30 : List UInt8 := dkwX5_line_30 ++ dktX5_line_31
def dkwX5_line_29 : List UInt8 := [182, 0, 181, 172, 42, 180, 0, 37, 16, 90, 42, 180, 0, 37, 16, 7, 46, 96, 27, 79, 42, 180, 0, 37]
abbrev dktX5_line_29 : List UInt8 := dkwX5_line_29 ++ dktX5_line_30
def dkwX5_line_28 : List UInt8 := [180, 0, 191, 159, 0, 7, 4, 167, 0, 4, 3, 61, 132, 3, 1, 167, 255, 203, 28, 154, 0, 9, 42, 6]
abbrev dktX5_line_28 : List UInt8 := dkwX5_line_28 ++ dktX5_line_29
def dkwX5_line_27 : List UInt8 := [180, 0, 37, 16, 90, 29, 96, 46, 27, 160, 0, 19, 42, 180, 0, 37, 16, 98, 29, 96, 46, 42]
abbrev dktX5_line_27 : List UInt8 := dkwX5_line_27 ++ dktX5_line_28
def dkwX5_line_26 : List UInt8 := [167, 0, 4, 3, 61, 3, 62, 29, 42, 180, 0, 37, 16, 7, 46, 162, 0, 48, 28, 153, 0, 36, 42]
abbrev dktX5_line_26 : List UInt8 := dkwX5_line_26 ++ dktX5_line_27
def dkwX5_line_25 : List UInt8 := [180, 0, 37, 16, 6, 46, 182, 0, 202, 154, 0, 5, 3, 172, 27, 42, 180, 0, 191, 159, 0, 7, 4]
abbrev dktX5_line_25 : List UInt8 := dkwX5_line_25 ++ dktX5_line_26
def dkwX5_line_24 : List UInt8 := [180, 0, 37, 16, 6, 46, 182, 0, 220, 154, 0, 5, 3, 172, 42, 180, 0, 191, 60, 42, 16, 44, 42]
abbrev dktX5_line_24 : List UInt8 := dkwX5_line_24 ++ dktX5_line_25
def dkwX5_line_23 : List UInt8 := [16, 7, 46, 16, 8, 160, 0, 9, 42, 7, 182, 0, 181, 172, 42, 182, 0, 184, 42, 16, 44, 42]
abbrev dktX5_line_23 : List UInt8 := dkwX5_line_23 ++ dktX5_line_24
def dkwX5_line_22 : List UInt8 := [182, 0, 226, 172, 42, 20, 0, 105, 182, 0, 206, 154, 0, 9, 42, 4, 182, 0, 181, 172, 42, 180, 0, 37]
abbrev dktX5_line_22 : List UInt8 := dkwX5_line_22 ++ dktX5_line_23
def dkwX5_line_21 : List UInt8 := [180, 0, 37, 8, 92, 46, 4, 96, 79, 4, 172, 42, 20, 0, 103, 182, 0, 206, 153, 0, 8, 42]
abbrev dktX5_line_21 : List UInt8 := dkwX5_line_21 ++ dktX5_line_22
def dkwX5_line_20 : List UInt8 := [182, 0, 184, 42, 16, 38, 42, 180, 0, 37, 8, 46, 96, 182, 0, 217, 154, 0, 5, 3, 172, 42]
abbrev dktX5_line_20 : List UInt8 := dkwX5_line_20 ++ dktX5_line_21
def dkwX5_line_19 : List UInt8 := [182, 0, 206, 153, 0, 54, 42, 180, 0, 37, 8, 46, 16, 6, 160, 0, 9, 42, 7, 182, 0, 181, 172, 42]
abbrev dktX5_line_19 : List UInt8 := dkwX5_line_19 ++ dktX5_line_20
def dkwX5_line_18 : List UInt8 := [7, 46, 96, 42, 180, 0, 191, 79, 42, 180, 0, 37, 7, 92, 46, 4, 96, 79, 4, 172, 42, 20, 0, 101]
abbrev dktX5_line_18 : List UInt8 := dkwX5_line_18 ++ dktX5_line_19
def dkwX5_line_17 : List UInt8 := [42, 180, 0, 37, 4, 46, 182, 0, 220, 154, 0, 5, 3, 172, 42, 180, 0, 37, 16, 22, 42, 180, 0, 37]
abbrev dktX5_line_17 : List UInt8 := dkwX5_line_17 ++ dktX5_line_18
def dkwX5_line_16 : List UInt8 := [172, 42, 182, 0, 184, 42, 16, 34, 42, 180, 0, 37, 7, 46, 96, 182, 0, 217, 153, 0, 18, 42, 16, 26]
abbrev dktX5_line_16 : List UInt8 := dkwX5_line_16 ++ dktX5_line_17
def dkwX5_line_15 : List UInt8 := [20, 0, 99, 182, 0, 206, 153, 0, 86, 42, 180, 0, 37, 7, 46, 7, 160, 0, 9, 42, 7, 182, 0, 181]
abbrev dktX5_line_15 : List UInt8 := dkwX5_line_15 ++ dktX5_line_16
def dkwX5_line_14 : List UInt8 := [180, 0, 37, 6, 46, 96, 42, 180, 0, 191, 79, 42, 180, 0, 37, 6, 92, 46, 4, 96, 79, 4, 172, 42]
abbrev dktX5_line_14 : List UInt8 := dkwX5_line_14 ++ dktX5_line_15
def dkwX5_line_13 : List UInt8 := [42, 16, 26, 42, 180, 0, 37, 4, 46, 182, 0, 220, 154, 0, 5, 3, 172, 42, 180, 0, 37, 16, 16, 42]
abbrev dktX5_line_13 : List UInt8 := dkwX5_line_13 ++ dktX5_line_14
def dkwX5_line_12 : List UInt8 := [153, 0, 71, 42, 180, 0, 37, 6, 46, 16, 6, 160, 0, 9, 42, 7, 182, 0, 181, 172, 42, 182, 0, 184]
abbrev dktX5_line_12 : List UInt8 := dkwX5_line_12 ++ dktX5_line_13
def dkwX5_line_11 : List UInt8 := [180, 0, 37, 5, 92, 46, 4, 96, 79, 42, 182, 0, 184, 4, 172, 42, 20, 0, 97, 182, 0, 206]
abbrev dktX5_line_11 : List UInt8 := dkwX5_line_11 ++ dktX5_line_12
def dkwX5_line_10 : List UInt8 := [120, 128, 79, 42, 180, 0, 37, 16, 8, 42, 180, 0, 191, 96, 92, 46, 4, 27, 120, 128, 79, 42]
abbrev dktX5_line_10 : List UInt8 := dkwX5_line_10 ++ dktX5_line_11
def dkwX5_line_9 : List UInt8 := [153, 0, 9, 42, 6, 182, 0, 181, 172, 42, 180, 0, 37, 16, 8, 27, 96, 92, 46, 4, 42, 180, 0, 191]
abbrev dktX5_line_9 : List UInt8 := dkwX5_line_9 ++ dktX5_line_10
def dkwX5_line_8 : List UInt8 := [42, 180, 0, 191, 159, 0, 22, 42, 180, 0, 37, 16, 8, 27, 96, 46, 42, 180, 0, 191, 184, 0, 223]
abbrev dktX5_line_8 : List UInt8 := dkwX5_line_8 ++ dktX5_line_9
def dkwX5_line_7 : List UInt8 := [172, 42, 180, 0, 191, 60, 42, 16, 26, 42, 180, 0, 37, 4, 46, 182, 0, 202, 154, 0, 5, 3, 172, 27]
abbrev dktX5_line_7 : List UInt8 := dkwX5_line_7 ++ dktX5_line_8
def dkwX5_line_6 : List UInt8 := [182, 0, 181, 172, 42, 182, 0, 184, 42, 16, 26, 42, 180, 0, 37, 4, 46, 182, 0, 220, 154, 0, 5, 3]
abbrev dktX5_line_6 : List UInt8 := dkwX5_line_6 ++ dktX5_line_7
def dkwX5_line_5 : List UInt8 := [20, 0, 95, 182, 0, 206, 153, 0, 148, 42, 180, 0, 37, 5, 46, 16, 12, 160, 0, 9, 42, 7]
abbrev dktX5_line_5 : List UInt8 := dkwX5_line_5 ++ dktX5_line_6
def dkwX5_line_4 : List UInt8 := [96, 182, 0, 217, 154, 0, 5, 3, 172, 42, 180, 0, 37, 4, 92, 46, 4, 96, 79, 4, 172, 42]
abbrev dktX5_line_4 : List UInt8 := dkwX5_line_4 ++ dktX5_line_5
def dkwX5_line_3 : List UInt8 := [16, 8, 160, 0, 9, 42, 7, 182, 0, 181, 172, 42, 182, 0, 184, 42, 16, 26, 42, 180, 0, 37, 4, 46]
abbrev dktX5_line_3 : List UInt8 := dkwX5_line_3 ++ dktX5_line_4
def dkwX5_line_2 : List UInt8 := [3, 42, 180, 0, 191, 79, 4, 172, 42, 20, 0, 93, 182, 0, 206, 153, 0, 54, 42, 180, 0, 37, 4, 46]
abbrev dktX5_line_2 : List UInt8 := dkwX5_line_2 ++ dktX5_line_3
def dkwX5_line_1 : List UInt8 := [4, 181, 0, 210, 42, 182, 0, 184, 42, 7, 16, 24, 182, 0, 214, 154, 0, 5, 3, 172, 42, 180, 0, 37]
abbrev dktX5_line_1 : List UInt8 := dkwX5_line_1 ++ dktX5_line_2
def dkwX5_line_0 : List UInt8 := [42, 20, 0, 91, 182, 0, 206, 153, 0, 49, 42, 180, 0, 210, 153, 0, 9, 42, 6, 182, 0, 181, 172, 42]
abbrev dktX5_line_0 : List UInt8 := dkwX5_line_0 ++ dktX5_line_1
theorem dksX5_line_0 : cX5_line.data.toList.drop 0 = dktX5_line_0 := by decide +kernel
theorem dksX5_line_1 : cX5_line.data.toList.drop 24 = dktX5_line_1 := dk_seg dksX5_line_0 24 rfl rfl
theorem dksX5_line_2 : cX5_line.data.toList.drop 48 = dktX5_line_2 := dk_seg dksX5_line_1 24 rfl rfl
theorem dksX5_line_3 : cX5_line.data.toList.drop 72 = dktX5_line_3 := dk_seg dksX5_line_2 24 rfl rfl
theorem dksX5_line_4 : cX5_line.data.toList.drop 96 = dktX5_line_4 := dk_seg dksX5_line_3 24 rfl rfl
theorem dksX5_line_5 : cX5_line.data.toList.drop 118 = dktX5_line_5 := dk_seg dksX5_line_4 22 rfl rfl
theorem dksX5_line_6 : cX5_line.data.toList.drop 140 = dktX5_line_6 := dk_seg dksX5_line_5 22 rfl rfl
theorem dksX5_line_7 : cX5_line.data.toList.drop 164 = dktX5_line_7 := dk_seg dksX5_line_6 24 rfl rfl
theorem dksX5_line_8 : cX5_line.data.toList.drop 188 = dktX5_line_8 := dk_seg dksX5_line_7 24 rfl rfl
theorem dksX5_line_9 : cX5_line.data.toList.drop 211 = dktX5_line_9 := dk_seg dksX5_line_8 23 rfl rfl
theorem dksX5_line_10 : cX5_line.data.toList.drop 235 = dktX5_line_10 := dk_seg dksX5_line_9 24 rfl rfl
theorem dksX5_line_11 : cX5_line.data.toList.drop 257 = dktX5_line_11 := dk_seg dksX5_line_10 22 rfl rfl
theorem dksX5_line_12 : cX5_line.data.toList.drop 279 = dktX5_line_12 := dk_seg dksX5_line_11 22 rfl rfl
theorem dksX5_line_13 : cX5_line.data.toList.drop 303 = dktX5_line_13 := dk_seg dksX5_line_12 24 rfl rfl
theorem dksX5_line_14 : cX5_line.data.toList.drop 327 = dktX5_line_14 := dk_seg dksX5_line_13 24 rfl rfl
theorem dksX5_line_15 : cX5_line.data.toList.drop 351 = dktX5_line_15 := dk_seg dksX5_line_14 24 rfl rfl
theorem dksX5_line_16 : cX5_line.data.toList.drop 375 = dktX5_line_16 := dk_seg dksX5_line_15 24 rfl rfl
theorem dksX5_line_17 : cX5_line.data.toList.drop 399 = dktX5_line_17 := dk_seg dksX5_line_16 24 rfl rfl
theorem dksX5_line_18 : cX5_line.data.toList.drop 423 = dktX5_line_18 := dk_seg dksX5_line_17 24 rfl rfl
theorem dksX5_line_19 : cX5_line.data.toList.drop 447 = dktX5_line_19 := dk_seg dksX5_line_18 24 rfl rfl
theorem dksX5_line_20 : cX5_line.data.toList.drop 471 = dktX5_line_20 := dk_seg dksX5_line_19 24 rfl rfl
theorem dksX5_line_21 : cX5_line.data.toList.drop 493 = dktX5_line_21 := dk_seg dksX5_line_20 22 rfl rfl
theorem dksX5_line_22 : cX5_line.data.toList.drop 515 = dktX5_line_22 := dk_seg dksX5_line_21 22 rfl rfl
theorem dksX5_line_23 : cX5_line.data.toList.drop 539 = dktX5_line_23 := dk_seg dksX5_line_22 24 rfl rfl
theorem dksX5_line_24 : cX5_line.data.toList.drop 561 = dktX5_line_24 := dk_seg dksX5_line_23 22 rfl rfl
theorem dksX5_line_25 : cX5_line.data.toList.drop 584 = dktX5_line_25 := dk_seg dksX5_line_24 23 rfl rfl
theorem dksX5_line_26 : cX5_line.data.toList.drop 607 = dktX5_line_26 := dk_seg dksX5_line_25 23 rfl rfl
theorem dksX5_line_27 : cX5_line.data.toList.drop 630 = dktX5_line_27 := dk_seg dksX5_line_26 23 rfl rfl
theorem dksX5_line_28 : cX5_line.data.toList.drop 652 = dktX5_line_28 := dk_seg dksX5_line_27 22 rfl rfl
theorem dksX5_line_29 : cX5_line.data.toList.drop 676 = dktX5_line_29 := dk_seg dksX5_line_28 24 rfl rfl
theorem dksX5_line_30 : cX5_line.data.toList.drop 700 = dktX5_line_30 := dk_seg dksX5_line_29 24 rfl rfl
theorem dksX5_line_31 : cX5_line.data.toList.drop 724 = dktX5_line_31 := dk_seg dksX5_line_30 24 rfl rfl
theorem dX5_line_0 : decode cX5_line 0 = .ok (.aload_n 0, 1) := dk_42 (dk_at dksX5_line_0 0 rfl rfl)
theorem dX5_line_1 : decode cX5_line 1 = .ok (.ldc2_w 91, 3) := dk_20 0 91 (dk_at dksX5_line_0 1 rfl rfl)
theorem dX5_line_4 : decode cX5_line 4 = .ok (.invokevirtual 206, 3) := dk_182 0 206 (dk_at dksX5_line_0 4 rfl rfl)
theorem dX5_line_7 : decode cX5_line 7 = .ok (.ifCond .eq 49, 3) := dk_153 0 49 (dk_at dksX5_line_0 7 rfl rfl)
theorem dX5_line_10 : decode cX5_line 10 = .ok (.aload_n 0, 1) := dk_42 (dk_at dksX5_line_0 10 rfl rfl)
theorem dX5_line_11 : decode cX5_line 11 = .ok (.getfield 210, 3) := dk_180 0 210 (dk_at dksX5_line_0 11 rfl rfl)
theorem dX5_line_14 : decode cX5_line 14 = .ok (.ifCond .eq 9, 3) := dk_153 0 9 (dk_at dksX5_line_0 14 rfl rfl)
theorem dX5_line_17 : decode cX5_line 17 = .ok (.aload_n 0, 1) := dk_42 (dk_at dksX5_line_0 17 rfl rfl)
theorem dX5_line_18 : decode cX5_line 18 = .ok (.iconst 3, 1) := dk_6 (dk_at dksX5_line_0 18 rfl rfl)
theorem dX5_line_19 : decode cX5_line 19 = .ok (.invokevirtual 181, 3) := dk_182 0 181 (dk_at dksX5_line_0 19 rfl rfl)
theorem dX5_line_22 : decode cX5_line 22 = .ok (.ireturn, 1) := dk_172 (dk_at dksX5_line_0 22 rfl rfl)
theorem dX5_line_23 : decode cX5_line 23 = .ok (.aload_n 0, 1) := dk_42 (dk_at dksX5_line_0 23 rfl rfl)
theorem dX5_line_24 : decode cX5_line 24 = .ok (.iconst 1, 1) := dk_4 (dk_at dksX5_line_1 0 rfl rfl)
theorem dX5_line_25 : decode cX5_line 25 = .ok (.putfield 210, 3) := dk_181 0 210 (dk_at dksX5_line_1 1 rfl rfl)
theorem dX5_line_28 : decode cX5_line 28 = .ok (.aload_n 0, 1) := dk_42 (dk_at dksX5_line_1 4 rfl rfl)
theorem dX5_line_29 : decode cX5_line 29 = .ok (.invokevirtual 184, 3) := dk_182 0 184 (dk_at dksX5_line_1 5 rfl rfl)
theorem dX5_line_32 : decode cX5_line 32 = .ok (.aload_n 0, 1) := dk_42 (dk_at dksX5_line_1 8 rfl rfl)
theorem dX5_line_33 : decode cX5_line 33 = .ok (.iconst 4, 1) := dk_7 (dk_at dksX5_line_1 9 rfl rfl)
theorem dX5_line_34 : decode cX5_line 34 = .ok (.bipush 24, 2) := dk_16 24 (dk_at dksX5_line_1 10 rfl rfl)
theorem dX5_line_36 : decode cX5_line 36 = .ok (.invokevirtual 214, 3) := dk_182 0 214 (dk_at dksX5_line_1 12 rfl rfl)
theorem dX5_line_39 : decode cX5_line 39 = .ok (.ifCond .ne 5, 3) := dk_154 0 5 (dk_at dksX5_line_1 15 rfl rfl)
theorem dX5_line_42 : decode cX5_line 42 = .ok (.iconst 0, 1) := dk_3 (dk_at dksX5_line_1 18 rfl rfl)
theorem dX5_line_43 : decode cX5_line 43 = .ok (.ireturn, 1) := dk_172 (dk_at dksX5_line_1 19 rfl rfl)
theorem dX5_line_44 : decode cX5_line 44 = .ok (.aload_n 0, 1) := dk_42 (dk_at dksX5_line_1 20 rfl rfl)
theorem dX5_line_45 : decode cX5_line 45 = .ok (.getfield 37, 3) := dk_180 0 37 (dk_at dksX5_line_1 21 rfl rfl)
theorem dX5_line_48 : decode cX5_line 48 = .ok (.iconst 0, 1) := dk_3 (dk_at dksX5_line_2 0 rfl rfl)
theorem dX5_line_49 : decode cX5_line 49 = .ok (.aload_n 0, 1) := dk_42 (dk_at dksX5_line_2 1 rfl rfl)
theorem dX5_line_50 : decode cX5_line 50 = .ok (.getfield 191, 3) := dk_180 0 191 (dk_at dksX5_line_2 2 rfl rfl)
theorem dX5_line_53 : decode cX5_line 53 = .ok (.iastore, 1) := dk_79 (dk_at dksX5_line_2 5 rfl rfl)
theorem dX5_line_54 : decode cX5_line 54 = .ok (.iconst 1, 1) := dk_4 (dk_at dksX5_line_2 6 rfl rfl)
theorem dX5_line_55 : decode cX5_line 55 = .ok (.ireturn, 1) := dk_172 (dk_at dksX5_line_2 7 rfl rfl)
theorem dX5_line_56 : decode cX5_line 56 = .ok (.aload_n 0, 1) := dk_42 (dk_at dksX5_line_2 8 rfl rfl)
theorem dX5_line_57 : decode cX5_line 57 = .ok (.ldc2_w 93, 3) := dk_20 0 93 (dk_at dksX5_line_2 9 rfl rfl)
theorem dX5_line_60 : decode cX5_line 60 = .ok (.invokevirtual 206, 3) := dk_182 0 206 (dk_at dksX5_line_2 12 rfl rfl)
theorem dX5_line_63 : decode cX5_line 63 = .ok (.ifCond .eq 54, 3) := dk_153 0 54 (dk_at dksX5_line_2 15 rfl rfl)
theorem dX5_line_66 : decode cX5_line 66 = .ok (.aload_n 0, 1) := dk_42 (dk_at dksX5_line_2 18 rfl rfl)
theorem dX5_line_67 : decode cX5_line 67 = .ok (.getfield 37, 3) := dk_180 0 37 (dk_at dksX5_line_2 19 rfl rfl)
theorem dX5_line_70 : decode cX5_line 70 = .ok (.iconst 1, 1) := dk_4 (dk_at dksX5_line_2 22 rfl rfl)
theorem dX5_line_71 : decode cX5_line 71 = .ok (.iaload, 1) := dk_46 (dk_at dksX5_line_2 23 rfl rfl)
theorem dX5_line_72 : decode cX5_line 72 = .ok (.bipush 8, 2) := dk_16 8 (dk_at dksX5_line_3 0 rfl rfl)
theorem dX5_line_74 : decode cX5_line 74 = .ok (.if_icmp .ne 9, 3) := dk_160 0 9 (dk_at dksX5_line_3 2 rfl rfl)
theorem dX5_line_77 : decode cX5_line 77 = .ok (.aload_n 0, 1) := dk_42 (dk_at dksX5_line_3 5 rfl rfl)
theorem dX5_line_78 : decode cX5_line 78 = .ok (.iconst 4, 1) := dk_7 (dk_at dksX5_line_3 6 rfl rfl)
theorem dX5_line_79 : decode cX5_line 79 = .ok (.invokevirtual 181, 3) := dk_182 0 181 (dk_at dksX5_line_3 7 rfl rfl)
theorem dX5_line_82 : decode cX5_line 82 = .ok (.ireturn, 1) := dk_172 (dk_at dksX5_line_3 10 rfl rfl)
theorem dX5_line_83 : decode cX5_line 83 = .ok (.aload_n 0, 1) := dk_42 (dk_at dksX5_line_3 11 rfl rfl)
theorem dX5_line_84 : decode cX5_line 84 = .ok (.invokevirtual 184, 3) := dk_182 0 184 (dk_at dksX5_line_3 12 rfl rfl)
theorem dX5_line_87 : decode cX5_line 87 = .ok (.aload_n 0, 1) := dk_42 (dk_at dksX5_line_3 15 rfl rfl)
theorem dX5_line_88 : decode cX5_line 88 = .ok (.bipush 26, 2) := dk_16 26 (dk_at dksX5_line_3 16 rfl rfl)
theorem dX5_line_90 : decode cX5_line 90 = .ok (.aload_n 0, 1) := dk_42 (dk_at dksX5_line_3 18 rfl rfl)
theorem dX5_line_91 : decode cX5_line 91 = .ok (.getfield 37, 3) := dk_180 0 37 (dk_at dksX5_line_3 19 rfl rfl)
theorem dX5_line_94 : decode cX5_line 94 = .ok (.iconst 1, 1) := dk_4 (dk_at dksX5_line_3 22 rfl rfl)
theorem dX5_line_95 : decode cX5_line 95 = .ok (.iaload, 1) := dk_46 (dk_at dksX5_line_3 23 rfl rfl)
theorem dX5_line_96 : decode cX5_line 96 = .ok (.iadd, 1) := dk_96 (dk_at dksX5_line_4 0 rfl rfl)
theorem dX5_line_97 : decode cX5_line 97 = .ok (.invokevirtual 217, 3) := dk_182 0 217 (dk_at dksX5_line_4 1 rfl rfl)
theorem dX5_line_100 : decode cX5_line 100 = .ok (.ifCond .ne 5, 3) := dk_154 0 5 (dk_at dksX5_line_4 4 rfl rfl)
theorem dX5_line_103 : decode cX5_line 103 = .ok (.iconst 0, 1) := dk_3 (dk_at dksX5_line_4 7 rfl rfl)
theorem dX5_line_104 : decode cX5_line 104 = .ok (.ireturn, 1) := dk_172 (dk_at dksX5_line_4 8 rfl rfl)
theorem dX5_line_105 : decode cX5_line 105 = .ok (.aload_n 0, 1) := dk_42 (dk_at dksX5_line_4 9 rfl rfl)
theorem dX5_line_106 : decode cX5_line 106 = .ok (.getfield 37, 3) := dk_180 0 37 (dk_at dksX5_line_4 10 rfl rfl)
theorem dX5_line_109 : decode cX5_line 109 = .ok (.iconst 1, 1) := dk_4 (dk_at dksX5_line_4 13 rfl rfl)
theorem dX5_line_110 : decode cX5_line 110 = .ok (.dup2, 1) := dk_92 (dk_at dksX5_line_4 14 rfl rfl)
theorem dX5_line_111 : decode cX5_line 111 = .ok (.iaload, 1) := dk_46 (dk_at dksX5_line_4 15 rfl rfl)
theorem dX5_line_112 : decode cX5_line 112 = .ok (.iconst 1, 1) := dk_4 (dk_at dksX5_line_4 16 rfl rfl)
theorem dX5_line_113 : decode cX5_line 113 = .ok (.iadd, 1) := dk_96 (dk_at dksX5_line_4 17 rfl rfl)
theorem dX5_line_114 : decode cX5_line 114 = .ok (.iastore, 1) := dk_79 (dk_at dksX5_line_4 18 rfl rfl)
theorem dX5_line_115 : decode cX5_line 115 = .ok (.iconst 1, 1) := dk_4 (dk_at dksX5_line_4 19 rfl rfl)
theorem dX5_line_116 : decode cX5_line 116 = .ok (.ireturn, 1) := dk_172 (dk_at dksX5_line_4 20 rfl rfl)
theorem dX5_line_117 : decode cX5_line 117 = .ok (.aload_n 0, 1) := dk_42 (dk_at dksX5_line_4 21 rfl rfl)
theorem dX5_line_118 : decode cX5_line 118 = .ok (.ldc2_w 95, 3) := dk_20 0 95 (dk_at dksX5_line_5 0 rfl rfl)
theorem dX5_line_121 : decode cX5_line 121 = .ok (.invokevirtual 206, 3) := dk_182 0 206 (dk_at dksX5_line_5 3 rfl rfl)
theorem dX5_line_124 : decode cX5_line 124 = .ok (.ifCond .eq 148, 3) := dk_153 0 148 (dk_at dksX5_line_5 6 rfl rfl)
theorem dX5_line_127 : decode cX5_line 127 = .ok (.aload_n 0, 1) := dk_42 (dk_at dksX5_line_5 9 rfl rfl)
theorem dX5_line_128 : decode cX5_line 128 = .ok (.getfield 37, 3) := dk_180 0 37 (dk_at dksX5_line_5 10 rfl rfl)
theorem dX5_line_131 : decode cX5_line 131 = .ok (.iconst 2, 1) := dk_5 (dk_at dksX5_line_5 13 rfl rfl)
theorem dX5_line_132 : decode cX5_line 132 = .ok (.iaload, 1) := dk_46 (dk_at dksX5_line_5 14 rfl rfl)
theorem dX5_line_133 : decode cX5_line 133 = .ok (.bipush 12, 2) := dk_16 12 (dk_at dksX5_line_5 15 rfl rfl)
theorem dX5_line_135 : decode cX5_line 135 = .ok (.if_icmp .ne 9, 3) := dk_160 0 9 (dk_at dksX5_line_5 17 rfl rfl)
theorem dX5_line_138 : decode cX5_line 138 = .ok (.aload_n 0, 1) := dk_42 (dk_at dksX5_line_5 20 rfl rfl)
theorem dX5_line_139 : decode cX5_line 139 = .ok (.iconst 4, 1) := dk_7 (dk_at dksX5_line_5 21 rfl rfl)
theorem dX5_line_140 : decode cX5_line 140 = .ok (.invokevirtual 181, 3) := dk_182 0 181 (dk_at dksX5_line_6 0 rfl rfl)
theorem dX5_line_143 : decode cX5_line 143 = .ok (.ireturn, 1) := dk_172 (dk_at dksX5_line_6 3 rfl rfl)
theorem dX5_line_144 : decode cX5_line 144 = .ok (.aload_n 0, 1) := dk_42 (dk_at dksX5_line_6 4 rfl rfl)
theorem dX5_line_145 : decode cX5_line 145 = .ok (.invokevirtual 184, 3) := dk_182 0 184 (dk_at dksX5_line_6 5 rfl rfl)
theorem dX5_line_148 : decode cX5_line 148 = .ok (.aload_n 0, 1) := dk_42 (dk_at dksX5_line_6 8 rfl rfl)
theorem dX5_line_149 : decode cX5_line 149 = .ok (.bipush 26, 2) := dk_16 26 (dk_at dksX5_line_6 9 rfl rfl)
theorem dX5_line_151 : decode cX5_line 151 = .ok (.aload_n 0, 1) := dk_42 (dk_at dksX5_line_6 11 rfl rfl)
theorem dX5_line_152 : decode cX5_line 152 = .ok (.getfield 37, 3) := dk_180 0 37 (dk_at dksX5_line_6 12 rfl rfl)
theorem dX5_line_155 : decode cX5_line 155 = .ok (.iconst 1, 1) := dk_4 (dk_at dksX5_line_6 15 rfl rfl)
theorem dX5_line_156 : decode cX5_line 156 = .ok (.iaload, 1) := dk_46 (dk_at dksX5_line_6 16 rfl rfl)
theorem dX5_line_157 : decode cX5_line 157 = .ok (.invokevirtual 220, 3) := dk_182 0 220 (dk_at dksX5_line_6 17 rfl rfl)
theorem dX5_line_160 : decode cX5_line 160 = .ok (.ifCond .ne 5, 3) := dk_154 0 5 (dk_at dksX5_line_6 20 rfl rfl)
theorem dX5_line_163 : decode cX5_line 163 = .ok (.iconst 0, 1) := dk_3 (dk_at dksX5_line_6 23 rfl rfl)
theorem dX5_line_164 : decode cX5_line 164 = .ok (.ireturn, 1) := dk_172 (dk_at dksX5_line_7 0 rfl rfl)
theorem dX5_line_165 : decode cX5_line 165 = .ok (.aload_n 0, 1) := dk_42 (dk_at dksX5_line_7 1 rfl rfl)
theorem dX5_line_166 : decode cX5_line 166 = .ok (.getfield 191, 3) := dk_180 0 191 (dk_at dksX5_line_7 2 rfl rfl)
theorem dX5_line_169 : decode cX5_line 169 = .ok (.istore_n 1, 1) := dk_60 (dk_at dksX5_line_7 5 rfl rfl)
theorem dX5_line_170 : decode cX5_line 170 = .ok (.aload_n 0, 1) := dk_42 (dk_at dksX5_line_7 6 rfl rfl)
theorem dX5_line_171 : decode cX5_line 171 = .ok (.bipush 26, 2) := dk_16 26 (dk_at dksX5_line_7 7 rfl rfl)
theorem dX5_line_173 : decode cX5_line 173 = .ok (.aload_n 0, 1) := dk_42 (dk_at dksX5_line_7 9 rfl rfl)
theorem dX5_line_174 : decode cX5_line 174 = .ok (.getfield 37, 3) := dk_180 0 37 (dk_at dksX5_line_7 10 rfl rfl)
theorem dX5_line_177 : decode cX5_line 177 = .ok (.iconst 1, 1) := dk_4 (dk_at dksX5_line_7 13 rfl rfl)
theorem dX5_line_178 : decode cX5_line 178 = .ok (.iaload, 1) := dk_46 (dk_at dksX5_line_7 14 rfl rfl)
theorem dX5_line_179 : decode cX5_line 179 = .ok (.invokevirtual 202, 3) := dk_182 0 202 (dk_at dksX5_line_7 15 rfl rfl)
theorem dX5_line_182 : decode cX5_line 182 = .ok (.ifCond .ne 5, 3) := dk_154 0 5 (dk_at dksX5_line_7 18 rfl rfl)
theorem dX5_line_185 : decode cX5_line 185 = .ok (.iconst 0, 1) := dk_3 (dk_at dksX5_line_7 21 rfl rfl)
theorem dX5_line_186 : decode cX5_line 186 = .ok (.ireturn, 1) := dk_172 (dk_at dksX5_line_7 22 rfl rfl)
theorem dX5_line_187 : decode cX5_line 187 = .ok (.iload_n 1, 1) := dk_27 (dk_at dksX5_line_7 23 rfl rfl)
theorem dX5_line_188 : decode cX5_line 188 = .ok (.aload_n 0, 1) := dk_42 (dk_at dksX5_line_8 0 rfl rfl)
theorem dX5_line_189 : decode cX5_line 189 = .ok (.getfield 191, 3) := dk_180 0 191 (dk_at dksX5_line_8 1 rfl rfl)
theorem dX5_line_192 : decode cX5_line 192 = .ok (.if_icmp .eq 22, 3) := dk_159 0 22 (dk_at dksX5_line_8 4 rfl rfl)
theorem dX5_line_195 : decode cX5_line 195 = .ok (.aload_n 0, 1) := dk_42 (dk_at dksX5_line_8 7 rfl rfl)
theorem dX5_line_196 : decode cX5_line 196 = .ok (.getfield 37, 3) := dk_180 0 37 (dk_at dksX5_line_8 8 rfl rfl)
theorem dX5_line_199 : decode cX5_line 199 = .ok (.bipush 8, 2) := dk_16 8 (dk_at dksX5_line_8 11 rfl rfl)
theorem dX5_line_201 : decode cX5_line 201 = .ok (.iload_n 1, 1) := dk_27 (dk_at dksX5_line_8 13 rfl rfl)
theorem dX5_line_202 : decode cX5_line 202 = .ok (.iadd, 1) := dk_96 (dk_at dksX5_line_8 14 rfl rfl)
theorem dX5_line_203 : decode cX5_line 203 = .ok (.iaload, 1) := dk_46 (dk_at dksX5_line_8 15 rfl rfl)
theorem dX5_line_204 : decode cX5_line 204 = .ok (.aload_n 0, 1) := dk_42 (dk_at dksX5_line_8 16 rfl rfl)
theorem dX5_line_205 : decode cX5_line 205 = .ok (.getfield 191, 3) := dk_180 0 191 (dk_at dksX5_line_8 17 rfl rfl)
theorem dX5_line_208 : decode cX5_line 208 = .ok (.invokestatic 223, 3) := dk_184 0 223 (dk_at dksX5_line_8 20 rfl rfl)
theorem dX5_line_211 : decode cX5_line 211 = .ok (.ifCond .eq 9, 3) := dk_153 0 9 (dk_at dksX5_line_9 0 rfl rfl)
theorem dX5_line_214 : decode cX5_line 214 = .ok (.aload_n 0, 1) := dk_42 (dk_at dksX5_line_9 3 rfl rfl)
theorem dX5_line_215 : decode cX5_line 215 = .ok (.iconst 3, 1) := dk_6 (dk_at dksX5_line_9 4 rfl rfl)
theorem dX5_line_216 : decode cX5_line 216 = .ok (.invokevirtual 181, 3) := dk_182 0 181 (dk_at dksX5_line_9 5 rfl rfl)
theorem dX5_line_219 : decode cX5_line 219 = .ok (.ireturn, 1) := dk_172 (dk_at dksX5_line_9 8 rfl rfl)
theorem dX5_line_220 : decode cX5_line 220 = .ok (.aload_n 0, 1) := dk_42 (dk_at dksX5_line_9 9 rfl rfl)
theorem dX5_line_221 : decode cX5_line 221 = .ok (.getfield 37, 3) := dk_180 0 37 (dk_at dksX5_line_9 10 rfl rfl)
theorem dX5_line_224 : decode cX5_line 224 = .ok (.bipush 8, 2) := dk_16 8 (dk_at dksX5_line_9 13 rfl rfl)
theorem dX5_line_226 : decode cX5_line 226 = .ok (.iload_n 1, 1) := dk_27 (dk_at dksX5_line_9 15 rfl rfl)
theorem dX5_line_227 : decode cX5_line 227 = .ok (.iadd, 1) := dk_96 (dk_at dksX5_line_9 16 rfl rfl)
theorem dX5_line_228 : decode cX5_line 228 = .ok (.dup2, 1) := dk_92 (dk_at dksX5_line_9 17 rfl rfl)
theorem dX5_line_229 : decode cX5_line 229 = .ok (.iaload, 1) := dk_46 (dk_at dksX5_line_9 18 rfl rfl)
theorem dX5_line_230 : decode cX5_line 230 = .ok (.iconst 1, 1) := dk_4 (dk_at dksX5_line_9 19 rfl rfl)
theorem dX5_line_231 : decode cX5_line 231 = .ok (.aload_n 0, 1) := dk_42 (dk_at dksX5_line_9 20 rfl rfl)
theorem dX5_line_232 : decode cX5_line 232 = .ok (.getfield 191, 3) := dk_180 0 191 (dk_at dksX5_line_9 21 rfl rfl)
theorem dX5_line_235 : decode cX5_line 235 = .ok (.ishl, 1) := dk_120 (dk_at dksX5_line_10 0 rfl rfl)
theorem dX5_line_236 : decode cX5_line 236 = .ok (.ior, 1) := dk_128 (dk_at dksX5_line_10 1 rfl rfl)
theorem dX5_line_237 : decode cX5_line 237 = .ok (.iastore, 1) := dk_79 (dk_at dksX5_line_10 2 rfl rfl)
theorem dX5_line_238 : decode cX5_line 238 = .ok (.aload_n 0, 1) := dk_42 (dk_at dksX5_line_10 3 rfl rfl)
theorem dX5_line_239 : decode cX5_line 239 = .ok (.getfield 37, 3) := dk_180 0 37 (dk_at dksX5_line_10 4 rfl rfl)
theorem dX5_line_242 : decode cX5_line 242 = .ok (.bipush 8, 2) := dk_16 8 (dk_at dksX5_line_10 7 rfl rfl)
theorem dX5_line_244 : decode cX5_line 244 = .ok (.aload_n 0, 1) := dk_42 (dk_at dksX5_line_10 9 rfl rfl)
theorem dX5_line_245 : decode cX5_line 245 = .ok (.getfield 191, 3) := dk_180 0 191 (dk_at dksX5_line_10 10 rfl rfl)
theorem dX5_line_248 : decode cX5_line 248 = .ok (.iadd, 1) := dk_96 (dk_at dksX5_line_10 13 rfl rfl)
theorem dX5_line_249 : decode cX5_line 249 = .ok (.dup2, 1) := dk_92 (dk_at dksX5_line_10 14 rfl rfl)
theorem dX5_line_250 : decode cX5_line 250 = .ok (.iaload, 1) := dk_46 (dk_at dksX5_line_10 15 rfl rfl)
theorem dX5_line_251 : decode cX5_line 251 = .ok (.iconst 1, 1) := dk_4 (dk_at dksX5_line_10 16 rfl rfl)
theorem dX5_line_252 : decode cX5_line 252 = .ok (.iload_n 1, 1) := dk_27 (dk_at dksX5_line_10 17 rfl rfl)
theorem dX5_line_253 : decode cX5_line 253 = .ok (.ishl, 1) := dk_120 (dk_at dksX5_line_10 18 rfl rfl)
theorem dX5_line_254 : decode cX5_line 254 = .ok (.ior, 1) := dk_128 (dk_at dksX5_line_10 19 rfl rfl)
theorem dX5_line_255 : decode cX5_line 255 = .ok (.iastore, 1) := dk_79 (dk_at dksX5_line_10 20 rfl rfl)
theorem dX5_line_256 : decode cX5_line 256 = .ok (.aload_n 0, 1) := dk_42 (dk_at dksX5_line_10 21 rfl rfl)
theorem dX5_line_257 : decode cX5_line 257 = .ok (.getfield 37, 3) := dk_180 0 37 (dk_at dksX5_line_11 0 rfl rfl)
theorem dX5_line_260 : decode cX5_line 260 = .ok (.iconst 2, 1) := dk_5 (dk_at dksX5_line_11 3 rfl rfl)
theorem dX5_line_261 : decode cX5_line 261 = .ok (.dup2, 1) := dk_92 (dk_at dksX5_line_11 4 rfl rfl)
theorem dX5_line_262 : decode cX5_line 262 = .ok (.iaload, 1) := dk_46 (dk_at dksX5_line_11 5 rfl rfl)
theorem dX5_line_263 : decode cX5_line 263 = .ok (.iconst 1, 1) := dk_4 (dk_at dksX5_line_11 6 rfl rfl)
theorem dX5_line_264 : decode cX5_line 264 = .ok (.iadd, 1) := dk_96 (dk_at dksX5_line_11 7 rfl rfl)
theorem dX5_line_265 : decode cX5_line 265 = .ok (.iastore, 1) := dk_79 (dk_at dksX5_line_11 8 rfl rfl)
theorem dX5_line_266 : decode cX5_line 266 = .ok (.aload_n 0, 1) := dk_42 (dk_at dksX5_line_11 9 rfl rfl)
theorem dX5_line_267 : decode cX5_line 267 = .ok (.invokevirtual 184, 3) := dk_182 0 184 (dk_at dksX5_line_11 10 rfl rfl)
theorem dX5_line_270 : decode cX5_line 270 = .ok (.iconst 1, 1) := dk_4 (dk_at dksX5_line_11 13 rfl rfl)
theorem dX5_line_271 : decode cX5_line 271 = .ok (.ireturn, 1) := dk_172 (dk_at dksX5_line_11 14 rfl rfl)
theorem dX5_line_272 : decode cX5_line 272 = .ok (.aload_n 0, 1) := dk_42 (dk_at dksX5_line_11 15 rfl rfl)
theorem dX5_line_273 : decode cX5_line 273 = .ok (.ldc2_w 97, 3) := dk_20 0 97 (dk_at dksX5_line_11 16 rfl rfl)
theorem dX5_line_276 : decode cX5_line 276 = .ok (.invokevirtual 206, 3) := dk_182 0 206 (dk_at dksX5_line_11 19 rfl rfl)
theorem dX5_line_279 : decode cX5_line 279 = .ok (.ifCond .eq 71, 3) := dk_153 0 71 (dk_at dksX5_line_12 0 rfl rfl)
theorem dX5_line_282 : decode cX5_line 282 = .ok (.aload_n 0, 1) := dk_42 (dk_at dksX5_line_12 3 rfl rfl)
theorem dX5_line_283 : decode cX5_line 283 = .ok (.getfield 37, 3) := dk_180 0 37 (dk_at dksX5_line_12 4 rfl rfl)
theorem dX5_line_286 : decode cX5_line 286 = .ok (.iconst 3, 1) := dk_6 (dk_at dksX5_line_12 7 rfl rfl)
theorem dX5_line_287 : decode cX5_line 287 = .ok (.iaload, 1) := dk_46 (dk_at dksX5_line_12 8 rfl rfl)
theorem dX5_line_288 : decode cX5_line 288 = .ok (.bipush 6, 2) := dk_16 6 (dk_at dksX5_line_12 9 rfl rfl)
theorem dX5_line_290 : decode cX5_line 290 = .ok (.if_icmp .ne 9, 3) := dk_160 0 9 (dk_at dksX5_line_12 11 rfl rfl)
theorem dX5_line_293 : decode cX5_line 293 = .ok (.aload_n 0, 1) := dk_42 (dk_at dksX5_line_12 14 rfl rfl)
theorem dX5_line_294 : decode cX5_line 294 = .ok (.iconst 4, 1) := dk_7 (dk_at dksX5_line_12 15 rfl rfl)
theorem dX5_line_295 : decode cX5_line 295 = .ok (.invokevirtual 181, 3) := dk_182 0 181 (dk_at dksX5_line_12 16 rfl rfl)
theorem dX5_line_298 : decode cX5_line 298 = .ok (.ireturn, 1) := dk_172 (dk_at dksX5_line_12 19 rfl rfl)
theorem dX5_line_299 : decode cX5_line 299 = .ok (.aload_n 0, 1) := dk_42 (dk_at dksX5_line_12 20 rfl rfl)
theorem dX5_line_300 : decode cX5_line 300 = .ok (.invokevirtual 184, 3) := dk_182 0 184 (dk_at dksX5_line_12 21 rfl rfl)
theorem dX5_line_303 : decode cX5_line 303 = .ok (.aload_n 0, 1) := dk_42 (dk_at dksX5_line_13 0 rfl rfl)
theorem dX5_line_304 : decode cX5_line 304 = .ok (.bipush 26, 2) := dk_16 26 (dk_at dksX5_line_13 1 rfl rfl)
theorem dX5_line_306 : decode cX5_line 306 = .ok (.aload_n 0, 1) := dk_42 (dk_at dksX5_line_13 3 rfl rfl)
theorem dX5_line_307 : decode cX5_line 307 = .ok (.getfield 37, 3) := dk_180 0 37 (dk_at dksX5_line_13 4 rfl rfl)
theorem dX5_line_310 : decode cX5_line 310 = .ok (.iconst 1, 1) := dk_4 (dk_at dksX5_line_13 7 rfl rfl)
theorem dX5_line_311 : decode cX5_line 311 = .ok (.iaload, 1) := dk_46 (dk_at dksX5_line_13 8 rfl rfl)
theorem dX5_line_312 : decode cX5_line 312 = .ok (.invokevirtual 220, 3) := dk_182 0 220 (dk_at dksX5_line_13 9 rfl rfl)
theorem dX5_line_315 : decode cX5_line 315 = .ok (.ifCond .ne 5, 3) := dk_154 0 5 (dk_at dksX5_line_13 12 rfl rfl)
theorem dX5_line_318 : decode cX5_line 318 = .ok (.iconst 0, 1) := dk_3 (dk_at dksX5_line_13 15 rfl rfl)
theorem dX5_line_319 : decode cX5_line 319 = .ok (.ireturn, 1) := dk_172 (dk_at dksX5_line_13 16 rfl rfl)
theorem dX5_line_320 : decode cX5_line 320 = .ok (.aload_n 0, 1) := dk_42 (dk_at dksX5_line_13 17 rfl rfl)
theorem dX5_line_321 : decode cX5_line 321 = .ok (.getfield 37, 3) := dk_180 0 37 (dk_at dksX5_line_13 18 rfl rfl)
theorem dX5_line_324 : decode cX5_line 324 = .ok (.bipush 16, 2) := dk_16 16 (dk_at dksX5_line_13 21 rfl rfl)
theorem dX5_line_326 : decode cX5_line 326 = .ok (.aload_n 0, 1) := dk_42 (dk_at dksX5_line_13 23 rfl rfl)
theorem dX5_line_327 : decode cX5_line 327 = .ok (.getfield 37, 3) := dk_180 0 37 (dk_at dksX5_line_14 0 rfl rfl)
theorem dX5_line_330 : decode cX5_line 330 = .ok (.iconst 3, 1) := dk_6 (dk_at dksX5_line_14 3 rfl rfl)
theorem dX5_line_331 : decode cX5_line 331 = .ok (.iaload, 1) := dk_46 (dk_at dksX5_line_14 4 rfl rfl)
theorem dX5_line_332 : decode cX5_line 332 = .ok (.iadd, 1) := dk_96 (dk_at dksX5_line_14 5 rfl rfl)
theorem dX5_line_333 : decode cX5_line 333 = .ok (.aload_n 0, 1) := dk_42 (dk_at dksX5_line_14 6 rfl rfl)
theorem dX5_line_334 : decode cX5_line 334 = .ok (.getfield 191, 3) := dk_180 0 191 (dk_at dksX5_line_14 7 rfl rfl)
theorem dX5_line_337 : decode cX5_line 337 = .ok (.iastore, 1) := dk_79 (dk_at dksX5_line_14 10 rfl rfl)
theorem dX5_line_338 : decode cX5_line 338 = .ok (.aload_n 0, 1) := dk_42 (dk_at dksX5_line_14 11 rfl rfl)
theorem dX5_line_339 : decode cX5_line 339 = .ok (.getfield 37, 3) := dk_180 0 37 (dk_at dksX5_line_14 12 rfl rfl)
theorem dX5_line_342 : decode cX5_line 342 = .ok (.iconst 3, 1) := dk_6 (dk_at dksX5_line_14 15 rfl rfl)
theorem dX5_line_343 : decode cX5_line 343 = .ok (.dup2, 1) := dk_92 (dk_at dksX5_line_14 16 rfl rfl)
theorem dX5_line_344 : decode cX5_line 344 = .ok (.iaload, 1) := dk_46 (dk_at dksX5_line_14 17 rfl rfl)
theorem dX5_line_345 : decode cX5_line 345 = .ok (.iconst 1, 1) := dk_4 (dk_at dksX5_line_14 18 rfl rfl)
theorem dX5_line_346 : decode cX5_line 346 = .ok (.iadd, 1) := dk_96 (dk_at dksX5_line_14 19 rfl rfl)
theorem dX5_line_347 : decode cX5_line 347 = .ok (.iastore, 1) := dk_79 (dk_at dksX5_line_14 20 rfl rfl)
theorem dX5_line_348 : decode cX5_line 348 = .ok (.iconst 1, 1) := dk_4 (dk_at dksX5_line_14 21 rfl rfl)
theorem dX5_line_349 : decode cX5_line 349 = .ok (.ireturn, 1) := dk_172 (dk_at dksX5_line_14 22 rfl rfl)
theorem dX5_line_350 : decode cX5_line 350 = .ok (.aload_n 0, 1) := dk_42 (dk_at dksX5_line_14 23 rfl rfl)
theorem dX5_line_351 : decode cX5_line 351 = .ok (.ldc2_w 99, 3) := dk_20 0 99 (dk_at dksX5_line_15 0 rfl rfl)
theorem dX5_line_354 : decode cX5_line 354 = .ok (.invokevirtual 206, 3) := dk_182 0 206 (dk_at dksX5_line_15 3 rfl rfl)
theorem dX5_line_357 : decode cX5_line 357 = .ok (.ifCond .eq 86, 3) := dk_153 0 86 (dk_at dksX5_line_15 6 rfl rfl)
theorem dX5_line_360 : decode cX5_line 360 = .ok (.aload_n 0, 1) := dk_42 (dk_at dksX5_line_15 9 rfl rfl)
theorem dX5_line_361 : decode cX5_line 361 = .ok (.getfield 37, 3) := dk_180 0 37 (dk_at dksX5_line_15 10 rfl rfl)
theorem dX5_line_364 : decode cX5_line 364 = .ok (.iconst 4, 1) := dk_7 (dk_at dksX5_line_15 13 rfl rfl)
theorem dX5_line_365 : decode cX5_line 365 = .ok (.iaload, 1) := dk_46 (dk_at dksX5_line_15 14 rfl rfl)
theorem dX5_line_366 : decode cX5_line 366 = .ok (.iconst 4, 1) := dk_7 (dk_at dksX5_line_15 15 rfl rfl)
theorem dX5_line_367 : decode cX5_line 367 = .ok (.if_icmp .ne 9, 3) := dk_160 0 9 (dk_at dksX5_line_15 16 rfl rfl)
theorem dX5_line_370 : decode cX5_line 370 = .ok (.aload_n 0, 1) := dk_42 (dk_at dksX5_line_15 19 rfl rfl)
theorem dX5_line_371 : decode cX5_line 371 = .ok (.iconst 4, 1) := dk_7 (dk_at dksX5_line_15 20 rfl rfl)
theorem dX5_line_372 : decode cX5_line 372 = .ok (.invokevirtual 181, 3) := dk_182 0 181 (dk_at dksX5_line_15 21 rfl rfl)
theorem dX5_line_375 : decode cX5_line 375 = .ok (.ireturn, 1) := dk_172 (dk_at dksX5_line_16 0 rfl rfl)
theorem dX5_line_376 : decode cX5_line 376 = .ok (.aload_n 0, 1) := dk_42 (dk_at dksX5_line_16 1 rfl rfl)
theorem dX5_line_377 : decode cX5_line 377 = .ok (.invokevirtual 184, 3) := dk_182 0 184 (dk_at dksX5_line_16 2 rfl rfl)
theorem dX5_line_380 : decode cX5_line 380 = .ok (.aload_n 0, 1) := dk_42 (dk_at dksX5_line_16 5 rfl rfl)
theorem dX5_line_381 : decode cX5_line 381 = .ok (.bipush 34, 2) := dk_16 34 (dk_at dksX5_line_16 6 rfl rfl)
theorem dX5_line_383 : decode cX5_line 383 = .ok (.aload_n 0, 1) := dk_42 (dk_at dksX5_line_16 8 rfl rfl)
theorem dX5_line_384 : decode cX5_line 384 = .ok (.getfield 37, 3) := dk_180 0 37 (dk_at dksX5_line_16 9 rfl rfl)
theorem dX5_line_387 : decode cX5_line 387 = .ok (.iconst 4, 1) := dk_7 (dk_at dksX5_line_16 12 rfl rfl)
theorem dX5_line_388 : decode cX5_line 388 = .ok (.iaload, 1) := dk_46 (dk_at dksX5_line_16 13 rfl rfl)
theorem dX5_line_389 : decode cX5_line 389 = .ok (.iadd, 1) := dk_96 (dk_at dksX5_line_16 14 rfl rfl)
theorem dX5_line_390 : decode cX5_line 390 = .ok (.invokevirtual 217, 3) := dk_182 0 217 (dk_at dksX5_line_16 15 rfl rfl)
theorem dX5_line_393 : decode cX5_line 393 = .ok (.ifCond .eq 18, 3) := dk_153 0 18 (dk_at dksX5_line_16 18 rfl rfl)
theorem dX5_line_396 : decode cX5_line 396 = .ok (.aload_n 0, 1) := dk_42 (dk_at dksX5_line_16 21 rfl rfl)
theorem dX5_line_397 : decode cX5_line 397 = .ok (.bipush 26, 2) := dk_16 26 (dk_at dksX5_line_16 22 rfl rfl)
theorem dX5_line_399 : decode cX5_line 399 = .ok (.aload_n 0, 1) := dk_42 (dk_at dksX5_line_17 0 rfl rfl)
theorem dX5_line_400 : decode cX5_line 400 = .ok (.getfield 37, 3) := dk_180 0 37 (dk_at dksX5_line_17 1 rfl rfl)
theorem dX5_line_403 : decode cX5_line 403 = .ok (.iconst 1, 1) := dk_4 (dk_at dksX5_line_17 4 rfl rfl)
theorem dX5_line_404 : decode cX5_line 404 = .ok (.iaload, 1) := dk_46 (dk_at dksX5_line_17 5 rfl rfl)
theorem dX5_line_405 : decode cX5_line 405 = .ok (.invokevirtual 220, 3) := dk_182 0 220 (dk_at dksX5_line_17 6 rfl rfl)
theorem dX5_line_408 : decode cX5_line 408 = .ok (.ifCond .ne 5, 3) := dk_154 0 5 (dk_at dksX5_line_17 9 rfl rfl)
theorem dX5_line_411 : decode cX5_line 411 = .ok (.iconst 0, 1) := dk_3 (dk_at dksX5_line_17 12 rfl rfl)
theorem dX5_line_412 : decode cX5_line 412 = .ok (.ireturn, 1) := dk_172 (dk_at dksX5_line_17 13 rfl rfl)
theorem dX5_line_413 : decode cX5_line 413 = .ok (.aload_n 0, 1) := dk_42 (dk_at dksX5_line_17 14 rfl rfl)
theorem dX5_line_414 : decode cX5_line 414 = .ok (.getfield 37, 3) := dk_180 0 37 (dk_at dksX5_line_17 15 rfl rfl)
theorem dX5_line_417 : decode cX5_line 417 = .ok (.bipush 22, 2) := dk_16 22 (dk_at dksX5_line_17 18 rfl rfl)
theorem dX5_line_419 : decode cX5_line 419 = .ok (.aload_n 0, 1) := dk_42 (dk_at dksX5_line_17 20 rfl rfl)
theorem dX5_line_420 : decode cX5_line 420 = .ok (.getfield 37, 3) := dk_180 0 37 (dk_at dksX5_line_17 21 rfl rfl)
theorem dX5_line_423 : decode cX5_line 423 = .ok (.iconst 4, 1) := dk_7 (dk_at dksX5_line_18 0 rfl rfl)
theorem dX5_line_424 : decode cX5_line 424 = .ok (.iaload, 1) := dk_46 (dk_at dksX5_line_18 1 rfl rfl)
theorem dX5_line_425 : decode cX5_line 425 = .ok (.iadd, 1) := dk_96 (dk_at dksX5_line_18 2 rfl rfl)
theorem dX5_line_426 : decode cX5_line 426 = .ok (.aload_n 0, 1) := dk_42 (dk_at dksX5_line_18 3 rfl rfl)
theorem dX5_line_427 : decode cX5_line 427 = .ok (.getfield 191, 3) := dk_180 0 191 (dk_at dksX5_line_18 4 rfl rfl)
theorem dX5_line_430 : decode cX5_line 430 = .ok (.iastore, 1) := dk_79 (dk_at dksX5_line_18 7 rfl rfl)
theorem dX5_line_431 : decode cX5_line 431 = .ok (.aload_n 0, 1) := dk_42 (dk_at dksX5_line_18 8 rfl rfl)
theorem dX5_line_432 : decode cX5_line 432 = .ok (.getfield 37, 3) := dk_180 0 37 (dk_at dksX5_line_18 9 rfl rfl)
theorem dX5_line_435 : decode cX5_line 435 = .ok (.iconst 4, 1) := dk_7 (dk_at dksX5_line_18 12 rfl rfl)
theorem dX5_line_436 : decode cX5_line 436 = .ok (.dup2, 1) := dk_92 (dk_at dksX5_line_18 13 rfl rfl)
theorem dX5_line_437 : decode cX5_line 437 = .ok (.iaload, 1) := dk_46 (dk_at dksX5_line_18 14 rfl rfl)
theorem dX5_line_438 : decode cX5_line 438 = .ok (.iconst 1, 1) := dk_4 (dk_at dksX5_line_18 15 rfl rfl)
theorem dX5_line_439 : decode cX5_line 439 = .ok (.iadd, 1) := dk_96 (dk_at dksX5_line_18 16 rfl rfl)
theorem dX5_line_440 : decode cX5_line 440 = .ok (.iastore, 1) := dk_79 (dk_at dksX5_line_18 17 rfl rfl)
theorem dX5_line_441 : decode cX5_line 441 = .ok (.iconst 1, 1) := dk_4 (dk_at dksX5_line_18 18 rfl rfl)
theorem dX5_line_442 : decode cX5_line 442 = .ok (.ireturn, 1) := dk_172 (dk_at dksX5_line_18 19 rfl rfl)
theorem dX5_line_443 : decode cX5_line 443 = .ok (.aload_n 0, 1) := dk_42 (dk_at dksX5_line_18 20 rfl rfl)
theorem dX5_line_444 : decode cX5_line 444 = .ok (.ldc2_w 101, 3) := dk_20 0 101 (dk_at dksX5_line_18 21 rfl rfl)
theorem dX5_line_447 : decode cX5_line 447 = .ok (.invokevirtual 206, 3) := dk_182 0 206 (dk_at dksX5_line_19 0 rfl rfl)
theorem dX5_line_450 : decode cX5_line 450 = .ok (.ifCond .eq 54, 3) := dk_153 0 54 (dk_at dksX5_line_19 3 rfl rfl)
theorem dX5_line_453 : decode cX5_line 453 = .ok (.aload_n 0, 1) := dk_42 (dk_at dksX5_line_19 6 rfl rfl)
theorem dX5_line_454 : decode cX5_line 454 = .ok (.getfield 37, 3) := dk_180 0 37 (dk_at dksX5_line_19 7 rfl rfl)
theorem dX5_line_457 : decode cX5_line 457 = .ok (.iconst 5, 1) := dk_8 (dk_at dksX5_line_19 10 rfl rfl)
theorem dX5_line_458 : decode cX5_line 458 = .ok (.iaload, 1) := dk_46 (dk_at dksX5_line_19 11 rfl rfl)
theorem dX5_line_459 : decode cX5_line 459 = .ok (.bipush 6, 2) := dk_16 6 (dk_at dksX5_line_19 12 rfl rfl)
theorem dX5_line_461 : decode cX5_line 461 = .ok (.if_icmp .ne 9, 3) := dk_160 0 9 (dk_at dksX5_line_19 14 rfl rfl)
theorem dX5_line_464 : decode cX5_line 464 = .ok (.aload_n 0, 1) := dk_42 (dk_at dksX5_line_19 17 rfl rfl)
theorem dX5_line_465 : decode cX5_line 465 = .ok (.iconst 4, 1) := dk_7 (dk_at dksX5_line_19 18 rfl rfl)
theorem dX5_line_466 : decode cX5_line 466 = .ok (.invokevirtual 181, 3) := dk_182 0 181 (dk_at dksX5_line_19 19 rfl rfl)
theorem dX5_line_469 : decode cX5_line 469 = .ok (.ireturn, 1) := dk_172 (dk_at dksX5_line_19 22 rfl rfl)
theorem dX5_line_470 : decode cX5_line 470 = .ok (.aload_n 0, 1) := dk_42 (dk_at dksX5_line_19 23 rfl rfl)
theorem dX5_line_471 : decode cX5_line 471 = .ok (.invokevirtual 184, 3) := dk_182 0 184 (dk_at dksX5_line_20 0 rfl rfl)
theorem dX5_line_474 : decode cX5_line 474 = .ok (.aload_n 0, 1) := dk_42 (dk_at dksX5_line_20 3 rfl rfl)
theorem dX5_line_475 : decode cX5_line 475 = .ok (.bipush 38, 2) := dk_16 38 (dk_at dksX5_line_20 4 rfl rfl)
theorem dX5_line_477 : decode cX5_line 477 = .ok (.aload_n 0, 1) := dk_42 (dk_at dksX5_line_20 6 rfl rfl)
theorem dX5_line_478 : decode cX5_line 478 = .ok (.getfield 37, 3) := dk_180 0 37 (dk_at dksX5_line_20 7 rfl rfl)
theorem dX5_line_481 : decode cX5_line 481 = .ok (.iconst 5, 1) := dk_8 (dk_at dksX5_line_20 10 rfl rfl)
theorem dX5_line_482 : decode cX5_line 482 = .ok (.iaload, 1) := dk_46 (dk_at dksX5_line_20 11 rfl rfl)
theorem dX5_line_483 : decode cX5_line 483 = .ok (.iadd, 1) := dk_96 (dk_at dksX5_line_20 12 rfl rfl)
theorem dX5_line_484 : decode cX5_line 484 = .ok (.invokevirtual 217, 3) := dk_182 0 217 (dk_at dksX5_line_20 13 rfl rfl)
theorem dX5_line_487 : decode cX5_line 487 = .ok (.ifCond .ne 5, 3) := dk_154 0 5 (dk_at dksX5_line_20 16 rfl rfl)
theorem dX5_line_490 : decode cX5_line 490 = .ok (.iconst 0, 1) := dk_3 (dk_at dksX5_line_20 19 rfl rfl)
theorem dX5_line_491 : decode cX5_line 491 = .ok (.ireturn, 1) := dk_172 (dk_at dksX5_line_20 20 rfl rfl)
theorem dX5_line_492 : decode cX5_line 492 = .ok (.aload_n 0, 1) := dk_42 (dk_at dksX5_line_20 21 rfl rfl)
theorem dX5_line_493 : decode cX5_line 493 = .ok (.getfield 37, 3) := dk_180 0 37 (dk_at dksX5_line_21 0 rfl rfl)
theorem dX5_line_496 : decode cX5_line 496 = .ok (.iconst 5, 1) := dk_8 (dk_at dksX5_line_21 3 rfl rfl)
theorem dX5_line_497 : decode cX5_line 497 = .ok (.dup2, 1) := dk_92 (dk_at dksX5_line_21 4 rfl rfl)
theorem dX5_line_498 : decode cX5_line 498 = .ok (.iaload, 1) := dk_46 (dk_at dksX5_line_21 5 rfl rfl)
theorem dX5_line_499 : decode cX5_line 499 = .ok (.iconst 1, 1) := dk_4 (dk_at dksX5_line_21 6 rfl rfl)
theorem dX5_line_500 : decode cX5_line 500 = .ok (.iadd, 1) := dk_96 (dk_at dksX5_line_21 7 rfl rfl)
theorem dX5_line_501 : decode cX5_line 501 = .ok (.iastore, 1) := dk_79 (dk_at dksX5_line_21 8 rfl rfl)
theorem dX5_line_502 : decode cX5_line 502 = .ok (.iconst 1, 1) := dk_4 (dk_at dksX5_line_21 9 rfl rfl)
theorem dX5_line_503 : decode cX5_line 503 = .ok (.ireturn, 1) := dk_172 (dk_at dksX5_line_21 10 rfl rfl)
theorem dX5_line_504 : decode cX5_line 504 = .ok (.aload_n 0, 1) := dk_42 (dk_at dksX5_line_21 11 rfl rfl)
theorem dX5_line_505 : decode cX5_line 505 = .ok (.ldc2_w 103, 3) := dk_20 0 103 (dk_at dksX5_line_21 12 rfl rfl)
theorem dX5_line_508 : decode cX5_line 508 = .ok (.invokevirtual 206, 3) := dk_182 0 206 (dk_at dksX5_line_21 15 rfl rfl)
theorem dX5_line_511 : decode cX5_line 511 = .ok (.ifCond .eq 8, 3) := dk_153 0 8 (dk_at dksX5_line_21 18 rfl rfl)
theorem dX5_line_514 : decode cX5_line 514 = .ok (.aload_n 0, 1) := dk_42 (dk_at dksX5_line_21 21 rfl rfl)
theorem dX5_line_515 : decode cX5_line 515 = .ok (.invokevirtual 226, 3) := dk_182 0 226 (dk_at dksX5_line_22 0 rfl rfl)
theorem dX5_line_518 : decode cX5_line 518 = .ok (.ireturn, 1) := dk_172 (dk_at dksX5_line_22 3 rfl rfl)
theorem dX5_line_519 : decode cX5_line 519 = .ok (.aload_n 0, 1) := dk_42 (dk_at dksX5_line_22 4 rfl rfl)
theorem dX5_line_520 : decode cX5_line 520 = .ok (.ldc2_w 105, 3) := dk_20 0 105 (dk_at dksX5_line_22 5 rfl rfl)
theorem dX5_line_523 : decode cX5_line 523 = .ok (.invokevirtual 206, 3) := dk_182 0 206 (dk_at dksX5_line_22 8 rfl rfl)
theorem dX5_line_526 : decode cX5_line 526 = .ok (.ifCond .ne 9, 3) := dk_154 0 9 (dk_at dksX5_line_22 11 rfl rfl)
theorem dX5_line_529 : decode cX5_line 529 = .ok (.aload_n 0, 1) := dk_42 (dk_at dksX5_line_22 14 rfl rfl)
theorem dX5_line_530 : decode cX5_line 530 = .ok (.iconst 1, 1) := dk_4 (dk_at dksX5_line_22 15 rfl rfl)
theorem dX5_line_531 : decode cX5_line 531 = .ok (.invokevirtual 181, 3) := dk_182 0 181 (dk_at dksX5_line_22 16 rfl rfl)
theorem dX5_line_534 : decode cX5_line 534 = .ok (.ireturn, 1) := dk_172 (dk_at dksX5_line_22 19 rfl rfl)
theorem dX5_line_535 : decode cX5_line 535 = .ok (.aload_n 0, 1) := dk_42 (dk_at dksX5_line_22 20 rfl rfl)
theorem dX5_line_536 : decode cX5_line 536 = .ok (.getfield 37, 3) := dk_180 0 37 (dk_at dksX5_line_22 21 rfl rfl)
theorem dX5_line_539 : decode cX5_line 539 = .ok (.bipush 7, 2) := dk_16 7 (dk_at dksX5_line_23 0 rfl rfl)
theorem dX5_line_541 : decode cX5_line 541 = .ok (.iaload, 1) := dk_46 (dk_at dksX5_line_23 2 rfl rfl)
theorem dX5_line_542 : decode cX5_line 542 = .ok (.bipush 8, 2) := dk_16 8 (dk_at dksX5_line_23 3 rfl rfl)
theorem dX5_line_544 : decode cX5_line 544 = .ok (.if_icmp .ne 9, 3) := dk_160 0 9 (dk_at dksX5_line_23 5 rfl rfl)
theorem dX5_line_547 : decode cX5_line 547 = .ok (.aload_n 0, 1) := dk_42 (dk_at dksX5_line_23 8 rfl rfl)
theorem dX5_line_548 : decode cX5_line 548 = .ok (.iconst 4, 1) := dk_7 (dk_at dksX5_line_23 9 rfl rfl)
theorem dX5_line_549 : decode cX5_line 549 = .ok (.invokevirtual 181, 3) := dk_182 0 181 (dk_at dksX5_line_23 10 rfl rfl)
theorem dX5_line_552 : decode cX5_line 552 = .ok (.ireturn, 1) := dk_172 (dk_at dksX5_line_23 13 rfl rfl)
theorem dX5_line_553 : decode cX5_line 553 = .ok (.aload_n 0, 1) := dk_42 (dk_at dksX5_line_23 14 rfl rfl)
theorem dX5_line_554 : decode cX5_line 554 = .ok (.invokevirtual 184, 3) := dk_182 0 184 (dk_at dksX5_line_23 15 rfl rfl)
theorem dX5_line_557 : decode cX5_line 557 = .ok (.aload_n 0, 1) := dk_42 (dk_at dksX5_line_23 18 rfl rfl)
theorem dX5_line_558 : decode cX5_line 558 = .ok (.bipush 44, 2) := dk_16 44 (dk_at dksX5_line_23 19 rfl rfl)
theorem dX5_line_560 : decode cX5_line 560 = .ok (.aload_n 0, 1) := dk_42 (dk_at dksX5_line_23 21 rfl rfl)
theorem dX5_line_561 : decode cX5_line 561 = .ok (.getfield 37, 3) := dk_180 0 37 (dk_at dksX5_line_24 0 rfl rfl)
theorem dX5_line_564 : decode cX5_line 564 = .ok (.bipush 6, 2) := dk_16 6 (dk_at dksX5_line_24 3 rfl rfl)
theorem dX5_line_566 : decode cX5_line 566 = .ok (.iaload, 1) := dk_46 (dk_at dksX5_line_24 5 rfl rfl)
theorem dX5_line_567 : decode cX5_line 567 = .ok (.invokevirtual 220, 3) := dk_182 0 220 (dk_at dksX5_line_24 6 rfl rfl)
theorem dX5_line_570 : decode cX5_line 570 = .ok (.ifCond .ne 5, 3) := dk_154 0 5 (dk_at dksX5_line_24 9 rfl rfl)
theorem dX5_line_573 : decode cX5_line 573 = .ok (.iconst 0, 1) := dk_3 (dk_at dksX5_line_24 12 rfl rfl)
theorem dX5_line_574 : decode cX5_line 574 = .ok (.ireturn, 1) := dk_172 (dk_at dksX5_line_24 13 rfl rfl)
theorem dX5_line_575 : decode cX5_line 575 = .ok (.aload_n 0, 1) := dk_42 (dk_at dksX5_line_24 14 rfl rfl)
theorem dX5_line_576 : decode cX5_line 576 = .ok (.getfield 191, 3) := dk_180 0 191 (dk_at dksX5_line_24 15 rfl rfl)
theorem dX5_line_579 : decode cX5_line 579 = .ok (.istore_n 1, 1) := dk_60 (dk_at dksX5_line_24 18 rfl rfl)
theorem dX5_line_580 : decode cX5_line 580 = .ok (.aload_n 0, 1) := dk_42 (dk_at dksX5_line_24 19 rfl rfl)
theorem dX5_line_581 : decode cX5_line 581 = .ok (.bipush 44, 2) := dk_16 44 (dk_at dksX5_line_24 20 rfl rfl)
theorem dX5_line_583 : decode cX5_line 583 = .ok (.aload_n 0, 1) := dk_42 (dk_at dksX5_line_24 22 rfl rfl)
theorem dX5_line_584 : decode cX5_line 584 = .ok (.getfield 37, 3) := dk_180 0 37 (dk_at dksX5_line_25 0 rfl rfl)
theorem dX5_line_587 : decode cX5_line 587 = .ok (.bipush 6, 2) := dk_16 6 (dk_at dksX5_line_25 3 rfl rfl)
theorem dX5_line_589 : decode cX5_line 589 = .ok (.iaload, 1) := dk_46 (dk_at dksX5_line_25 5 rfl rfl)
theorem dX5_line_590 : decode cX5_line 590 = .ok (.invokevirtual 202, 3) := dk_182 0 202 (dk_at dksX5_line_25 6 rfl rfl)
theorem dX5_line_593 : decode cX5_line 593 = .ok (.ifCond .ne 5, 3) := dk_154 0 5 (dk_at dksX5_line_25 9 rfl rfl)
theorem dX5_line_596 : decode cX5_line 596 = .ok (.iconst 0, 1) := dk_3 (dk_at dksX5_line_25 12 rfl rfl)
theorem dX5_line_597 : decode cX5_line 597 = .ok (.ireturn, 1) := dk_172 (dk_at dksX5_line_25 13 rfl rfl)
theorem dX5_line_598 : decode cX5_line 598 = .ok (.iload_n 1, 1) := dk_27 (dk_at dksX5_line_25 14 rfl rfl)
theorem dX5_line_599 : decode cX5_line 599 = .ok (.aload_n 0, 1) := dk_42 (dk_at dksX5_line_25 15 rfl rfl)
theorem dX5_line_600 : decode cX5_line 600 = .ok (.getfield 191, 3) := dk_180 0 191 (dk_at dksX5_line_25 16 rfl rfl)
theorem dX5_line_603 : decode cX5_line 603 = .ok (.if_icmp .eq 7, 3) := dk_159 0 7 (dk_at dksX5_line_25 19 rfl rfl)
theorem dX5_line_606 : decode cX5_line 606 = .ok (.iconst 1, 1) := dk_4 (dk_at dksX5_line_25 22 rfl rfl)
theorem dX5_line_607 : decode cX5_line 607 = .ok (.goto 4, 3) := dk_167 0 4 (dk_at dksX5_line_26 0 rfl rfl)
theorem dX5_line_610 : decode cX5_line 610 = .ok (.iconst 0, 1) := dk_3 (dk_at dksX5_line_26 3 rfl rfl)
theorem dX5_line_611 : decode cX5_line 611 = .ok (.istore_n 2, 1) := dk_61 (dk_at dksX5_line_26 4 rfl rfl)
theorem dX5_line_612 : decode cX5_line 612 = .ok (.iconst 0, 1) := dk_3 (dk_at dksX5_line_26 5 rfl rfl)
theorem dX5_line_613 : decode cX5_line 613 = .ok (.istore_n 3, 1) := dk_62 (dk_at dksX5_line_26 6 rfl rfl)
theorem dX5_line_614 : decode cX5_line 614 = .ok (.iload_n 3, 1) := dk_29 (dk_at dksX5_line_26 7 rfl rfl)
theorem dX5_line_615 : decode cX5_line 615 = .ok (.aload_n 0, 1) := dk_42 (dk_at dksX5_line_26 8 rfl rfl)
theorem dX5_line_616 : decode cX5_line 616 = .ok (.getfield 37, 3) := dk_180 0 37 (dk_at dksX5_line_26 9 rfl rfl)
theorem dX5_line_619 : decode cX5_line 619 = .ok (.bipush 7, 2) := dk_16 7 (dk_at dksX5_line_26 12 rfl rfl)
theorem dX5_line_621 : decode cX5_line 621 = .ok (.iaload, 1) := dk_46 (dk_at dksX5_line_26 14 rfl rfl)
theorem dX5_line_622 : decode cX5_line 622 = .ok (.if_icmp .ge 48, 3) := dk_162 0 48 (dk_at dksX5_line_26 15 rfl rfl)
theorem dX5_line_625 : decode cX5_line 625 = .ok (.iload_n 2, 1) := dk_28 (dk_at dksX5_line_26 18 rfl rfl)
theorem dX5_line_626 : decode cX5_line 626 = .ok (.ifCond .eq 36, 3) := dk_153 0 36 (dk_at dksX5_line_26 19 rfl rfl)
theorem dX5_line_629 : decode cX5_line 629 = .ok (.aload_n 0, 1) := dk_42 (dk_at dksX5_line_26 22 rfl rfl)
theorem dX5_line_630 : decode cX5_line 630 = .ok (.getfield 37, 3) := dk_180 0 37 (dk_at dksX5_line_27 0 rfl rfl)
theorem dX5_line_633 : decode cX5_line 633 = .ok (.bipush 90, 2) := dk_16 90 (dk_at dksX5_line_27 3 rfl rfl)
theorem dX5_line_635 : decode cX5_line 635 = .ok (.iload_n 3, 1) := dk_29 (dk_at dksX5_line_27 5 rfl rfl)
theorem dX5_line_636 : decode cX5_line 636 = .ok (.iadd, 1) := dk_96 (dk_at dksX5_line_27 6 rfl rfl)
theorem dX5_line_637 : decode cX5_line 637 = .ok (.iaload, 1) := dk_46 (dk_at dksX5_line_27 7 rfl rfl)
theorem dX5_line_638 : decode cX5_line 638 = .ok (.iload_n 1, 1) := dk_27 (dk_at dksX5_line_27 8 rfl rfl)
theorem dX5_line_639 : decode cX5_line 639 = .ok (.if_icmp .ne 19, 3) := dk_160 0 19 (dk_at dksX5_line_27 9 rfl rfl)
theorem dX5_line_642 : decode cX5_line 642 = .ok (.aload_n 0, 1) := dk_42 (dk_at dksX5_line_27 12 rfl rfl)
theorem dX5_line_643 : decode cX5_line 643 = .ok (.getfield 37, 3) := dk_180 0 37 (dk_at dksX5_line_27 13 rfl rfl)
theorem dX5_line_646 : decode cX5_line 646 = .ok (.bipush 98, 2) := dk_16 98 (dk_at dksX5_line_27 16 rfl rfl)
theorem dX5_line_648 : decode cX5_line 648 = .ok (.iload_n 3, 1) := dk_29 (dk_at dksX5_line_27 18 rfl rfl)
theorem dX5_line_649 : decode cX5_line 649 = .ok (.iadd, 1) := dk_96 (dk_at dksX5_line_27 19 rfl rfl)
theorem dX5_line_650 : decode cX5_line 650 = .ok (.iaload, 1) := dk_46 (dk_at dksX5_line_27 20 rfl rfl)
theorem dX5_line_651 : decode cX5_line 651 = .ok (.aload_n 0, 1) := dk_42 (dk_at dksX5_line_27 21 rfl rfl)
theorem dX5_line_652 : decode cX5_line 652 = .ok (.getfield 191, 3) := dk_180 0 191 (dk_at dksX5_line_28 0 rfl rfl)
theorem dX5_line_655 : decode cX5_line 655 = .ok (.if_icmp .eq 7, 3) := dk_159 0 7 (dk_at dksX5_line_28 3 rfl rfl)
theorem dX5_line_658 : decode cX5_line 658 = .ok (.iconst 1, 1) := dk_4 (dk_at dksX5_line_28 6 rfl rfl)
theorem dX5_line_659 : decode cX5_line 659 = .ok (.goto 4, 3) := dk_167 0 4 (dk_at dksX5_line_28 7 rfl rfl)
theorem dX5_line_662 : decode cX5_line 662 = .ok (.iconst 0, 1) := dk_3 (dk_at dksX5_line_28 10 rfl rfl)
theorem dX5_line_663 : decode cX5_line 663 = .ok (.istore_n 2, 1) := dk_61 (dk_at dksX5_line_28 11 rfl rfl)
theorem dX5_line_664 : decode cX5_line 664 = .ok (.iinc 3 1, 3) := dk_132 3 1 (dk_at dksX5_line_28 12 rfl rfl)
theorem dX5_line_667 : decode cX5_line 667 = .ok (.goto (-53), 3) := dk_167 255 203 (dk_at dksX5_line_28 15 rfl rfl)
theorem dX5_line_670 : decode cX5_line 670 = .ok (.iload_n 2, 1) := dk_28 (dk_at dksX5_line_28 18 rfl rfl)
theorem dX5_line_671 : decode cX5_line 671 = .ok (.ifCond .ne 9, 3) := dk_154 0 9 (dk_at dksX5_line_28 19 rfl rfl)
theorem dX5_line_674 : decode cX5_line 674 = .ok (.aload_n 0, 1) := dk_42 (dk_at dksX5_line_28 22 rfl rfl)
theorem dX5_line_675 : decode cX5_line 675 = .ok (.iconst 3, 1) := dk_6 (dk_at dksX5_line_28 23 rfl rfl)
theorem dX5_line_676 : decode cX5_line 676 = .ok (.invokevirtual 181, 3) := dk_182 0 181 (dk_at dksX5_line_29 0 rfl rfl)
theorem dX5_line_679 : decode cX5_line 679 = .ok (.ireturn, 1) := dk_172 (dk_at dksX5_line_29 3 rfl rfl)
theorem dX5_line_680 : decode cX5_line 680 = .ok (.aload_n 0, 1) := dk_42 (dk_at dksX5_line_29 4 rfl rfl)
theorem dX5_line_681 : decode cX5_line 681 = .ok (.getfield 37, 3) := dk_180 0 37 (dk_at dksX5_line_29 5 rfl rfl)
theorem dX5_line_684 : decode cX5_line 684 = .ok (.bipush 90, 2) := dk_16 90 (dk_at dksX5_line_29 8 rfl rfl)
theorem dX5_line_686 : decode cX5_line 686 = .ok (.aload_n 0, 1) := dk_42 (dk_at dksX5_line_29 10 rfl rfl)
theorem dX5_line_687 : decode cX5_line 687 = .ok (.getfield 37, 3) := dk_180 0 37 (dk_at dksX5_line_29 11 rfl rfl)
theorem dX5_line_690 : decode cX5_line 690 = .ok (.bipush 7, 2) := dk_16 7 (dk_at dksX5_line_29 14 rfl rfl)
theorem dX5_line_692 : decode cX5_line 692 = .ok (.iaload, 1) := dk_46 (dk_at dksX5_line_29 16 rfl rfl)
theorem dX5_line_693 : decode cX5_line 693 = .ok (.iadd, 1) := dk_96 (dk_at dksX5_line_29 17 rfl rfl)
theorem dX5_line_694 : decode cX5_line 694 = .ok (.iload_n 1, 1) := dk_27 (dk_at dksX5_line_29 18 rfl rfl)
theorem dX5_line_695 : decode cX5_line 695 = .ok (.iastore, 1) := dk_79 (dk_at dksX5_line_29 19 rfl rfl)
theorem dX5_line_696 : decode cX5_line 696 = .ok (.aload_n 0, 1) := dk_42 (dk_at dksX5_line_29 20 rfl rfl)
theorem dX5_line_697 : decode cX5_line 697 = .ok (.getfield 37, 3) := dk_180 0 37 (dk_at dksX5_line_29 21 rfl rfl)
theorem dX5_line_700 : decode cX5_line 700 = .ok (.bipush 98, 2) := dk_16 98 (dk_at dksX5_line_30 0 rfl rfl)
theorem dX5_line_702 : decode cX5_line 702 = .ok (.aload_n 0, 1) := dk_42 (dk_at dksX5_line_30 2 rfl rfl)
theorem dX5_line_703 : decode cX5_line 703 = .ok (.getfield 37, 3) := dk_180 0 37 (dk_at dksX5_line_30 3 rfl rfl)
theorem dX5_line_706 : decode cX5_line 706 = .ok (.bipush 7, 2) := dk_16 7 (dk_at dksX5_line_30 6 rfl rfl)
theorem dX5_line_708 : decode cX5_line 708 = .ok (.iaload, 1) := dk_46 (dk_at dksX5_line_30 8 rfl rfl)
theorem dX5_line_709 : decode cX5_line 709 = .ok (.iadd, 1) := dk_96 (dk_at dksX5_line_30 9 rfl rfl)
theorem dX5_line_710 : decode cX5_line 710 = .ok (.aload_n 0, 1) := dk_42 (dk_at dksX5_line_30 10 rfl rfl)
theorem dX5_line_711 : decode cX5_line 711 = .ok (.getfield 191, 3) := dk_180 0 191 (dk_at dksX5_line_30 11 rfl rfl)
theorem dX5_line_714 : decode cX5_line 714 = .ok (.iastore, 1) := dk_79 (dk_at dksX5_line_30 14 rfl rfl)
theorem dX5_line_715 : decode cX5_line 715 = .ok (.aload_n 0, 1) := dk_42 (dk_at dksX5_line_30 15 rfl rfl)
theorem dX5_line_716 : decode cX5_line 716 = .ok (.getfield 37, 3) := dk_180 0 37 (dk_at dksX5_line_30 16 rfl rfl)
theorem dX5_line_719 : decode cX5_line 719 = .ok (.bipush 7, 2) := dk_16 7 (dk_at dksX5_line_30 19 rfl rfl)
theorem dX5_line_721 : decode cX5_line 721 = .ok (.dup2, 1) := dk_92 (dk_at dksX5_line_30 21 rfl rfl)
theorem dX5_line_722 : decode cX5_line 722 = .ok (.iaload, 1) := dk_46 (dk_at dksX5_line_30 22 rfl rfl)
theorem dX5_line_723 : decode cX5_line 723 = .ok (.iconst 1, 1) := dk_4 (dk_at dksX5_line_30 23 rfl rfl)
theorem dX5_line_724 : decode cX5_line 724 = .ok (.iadd, 1) := dk_96 (dk_at dksX5_line_31 0 rfl rfl)
theorem dX5_line_725 : decode cX5_line 725 = .ok (.iastore, 1) := dk_79 (dk_at dksX5_line_31 1 rfl rfl)
theorem dX5_line_726 : decode cX5_line 726 = .ok (.aload_n 0, 1) := dk_42 (dk_at dksX5_line_31 2 rfl rfl)
theorem dX5_line_727 : decode cX5_line 727 = .ok (.invokevirtual 184, 3) := dk_182 0 184 (dk_at dksX5_line_31 3 rfl rfl)
theorem dX5_line_730 : decode cX5_line 730 = .ok (.iconst 1, 1) := dk_4 (dk_at dksX5_line_31 6 rfl rfl)
theorem dX5_line_731 : decode cX5_line 731 = .ok (.ireturn, 1) := dk_172 (dk_at dksX5_line_31 7 rfl rfl)
abbrev cX5_isWord : ByteArray := prog_26_method_17_code
def yX5_isWord : MethodName := ⟨RX5, "isWord", "(J)Z"⟩
def dkwX5_isWord_0 : List UInt8 := [42, 180, 0, 155, 4, 160, 0, 16, 42, 180, 0, 168, 31, 148, 154, 0, 7, 4, 167, 0, 4, 3, 172]
abbrev dktX5_isWord_0 : List UInt8 := dkwX5_isWord_0 ++ []
theorem dksX5_isWord_0 : cX5_isWord.data.toList.drop 0 = dktX5_isWord_0 := by decide +kernel
theorem dX5_isWord_0 : decode cX5_isWord 0 = .ok (.aload_n 0, 1) := dk_42 (dk_at dksX5_isWord_0 0 rfl rfl)
theorem dX5_isWord_1 : decode cX5_isWord 1 = .ok (.getfield 155, 3) := dk_180 0 155 (dk_at dksX5_isWord_0 1 rfl rfl)
theorem dX5_isWord_4 : decode cX5_isWord 4 = .ok (.iconst 1, 1) := dk_4 (dk_at dksX5_isWord_0 4 rfl rfl)
theorem dX5_isWord_5 : decode cX5_isWord 5 = .ok (.if_icmp .ne 16, 3) := dk_160 0 16 (dk_at dksX5_isWord_0 5 rfl rfl)
theorem dX5_isWord_8 : decode cX5_isWord 8 = .ok (.aload_n 0, 1) := dk_42 (dk_at dksX5_isWord_0 8 rfl rfl)
theorem dX5_isWord_9 : decode cX5_isWord 9 = .ok (.getfield 168, 3) := dk_180 0 168 (dk_at dksX5_isWord_0 9 rfl rfl)
theorem dX5_isWord_12 : decode cX5_isWord 12 = .ok (.lload_n 1, 1) := dk_31 (dk_at dksX5_isWord_0 12 rfl rfl)
theorem dX5_isWord_13 : decode cX5_isWord 13 = .ok (.lcmp, 1) := dk_148 (dk_at dksX5_isWord_0 13 rfl rfl)
theorem dX5_isWord_14 : decode cX5_isWord 14 = .ok (.ifCond .ne 7, 3) := dk_154 0 7 (dk_at dksX5_isWord_0 14 rfl rfl)
theorem dX5_isWord_17 : decode cX5_isWord 17 = .ok (.iconst 1, 1) := dk_4 (dk_at dksX5_isWord_0 17 rfl rfl)
theorem dX5_isWord_18 : decode cX5_isWord 18 = .ok (.goto 4, 3) := dk_167 0 4 (dk_at dksX5_isWord_0 18 rfl rfl)
theorem dX5_isWord_21 : decode cX5_isWord 21 = .ok (.iconst 0, 1) := dk_3 (dk_at dksX5_isWord_0 21 rfl rfl)
theorem dX5_isWord_22 : decode cX5_isWord 22 = .ok (.ireturn, 1) := dk_172 (dk_at dksX5_isWord_0 22 rfl rfl)
abbrev cX5_bad : ByteArray := prog_26_method_16_code
def yX5_bad : MethodName := ⟨RX5, "bad", "(I)Z"⟩
def dkwX5_bad_0 : List UInt8 := [42, 27, 181, 0, 172, 42, 42, 180, 0, 149, 181, 0, 175, 3, 172]
abbrev dktX5_bad_0 : List UInt8 := dkwX5_bad_0 ++ []
theorem dksX5_bad_0 : cX5_bad.data.toList.drop 0 = dktX5_bad_0 := by decide +kernel
theorem dX5_bad_0 : decode cX5_bad 0 = .ok (.aload_n 0, 1) := dk_42 (dk_at dksX5_bad_0 0 rfl rfl)
theorem dX5_bad_1 : decode cX5_bad 1 = .ok (.iload_n 1, 1) := dk_27 (dk_at dksX5_bad_0 1 rfl rfl)
theorem dX5_bad_2 : decode cX5_bad 2 = .ok (.putfield 172, 3) := dk_181 0 172 (dk_at dksX5_bad_0 2 rfl rfl)
theorem dX5_bad_5 : decode cX5_bad 5 = .ok (.aload_n 0, 1) := dk_42 (dk_at dksX5_bad_0 5 rfl rfl)
theorem dX5_bad_6 : decode cX5_bad 6 = .ok (.aload_n 0, 1) := dk_42 (dk_at dksX5_bad_0 6 rfl rfl)
theorem dX5_bad_7 : decode cX5_bad 7 = .ok (.getfield 149, 3) := dk_180 0 149 (dk_at dksX5_bad_0 7 rfl rfl)
theorem dX5_bad_10 : decode cX5_bad 10 = .ok (.putfield 175, 3) := dk_181 0 175 (dk_at dksX5_bad_0 10 rfl rfl)
theorem dX5_bad_13 : decode cX5_bad 13 = .ok (.iconst 0, 1) := dk_3 (dk_at dksX5_bad_0 13 rfl rfl)
theorem dX5_bad_14 : decode cX5_bad 14 = .ok (.ireturn, 1) := dk_172 (dk_at dksX5_bad_0 14 rfl rfl)
abbrev cX5_takes : ByteArray := prog_26_method_21_code
def yX5_takes : MethodName := ⟨RX5, "takes", "(II)Z"⟩
def dkwX5_takes_1 : List UInt8 := [154, 0, 9, 42, 5, 182, 0, 181, 172, 42, 42, 180, 0, 165, 181, 0, 191, 42, 182, 0, 184, 4, 172]
abbrev dktX5_takes_1 : List UInt8 := dkwX5_takes_1 ++ []
def dkwX5_takes_0 : List UInt8 := [42, 180, 0, 155, 5, 159, 0, 9, 42, 4, 182, 0, 181, 172, 42, 180, 0, 165, 27, 28, 184, 0, 187]
abbrev dktX5_takes_0 : List UInt8 := dkwX5_takes_0 ++ dktX5_takes_1
theorem dksX5_takes_0 : cX5_takes.data.toList.drop 0 = dktX5_takes_0 := by decide +kernel
theorem dksX5_takes_1 : cX5_takes.data.toList.drop 23 = dktX5_takes_1 := dk_seg dksX5_takes_0 23 rfl rfl
theorem dX5_takes_0 : decode cX5_takes 0 = .ok (.aload_n 0, 1) := dk_42 (dk_at dksX5_takes_0 0 rfl rfl)
theorem dX5_takes_1 : decode cX5_takes 1 = .ok (.getfield 155, 3) := dk_180 0 155 (dk_at dksX5_takes_0 1 rfl rfl)
theorem dX5_takes_4 : decode cX5_takes 4 = .ok (.iconst 2, 1) := dk_5 (dk_at dksX5_takes_0 4 rfl rfl)
theorem dX5_takes_5 : decode cX5_takes 5 = .ok (.if_icmp .eq 9, 3) := dk_159 0 9 (dk_at dksX5_takes_0 5 rfl rfl)
theorem dX5_takes_8 : decode cX5_takes 8 = .ok (.aload_n 0, 1) := dk_42 (dk_at dksX5_takes_0 8 rfl rfl)
theorem dX5_takes_9 : decode cX5_takes 9 = .ok (.iconst 1, 1) := dk_4 (dk_at dksX5_takes_0 9 rfl rfl)
theorem dX5_takes_10 : decode cX5_takes 10 = .ok (.invokevirtual 181, 3) := dk_182 0 181 (dk_at dksX5_takes_0 10 rfl rfl)
theorem dX5_takes_13 : decode cX5_takes 13 = .ok (.ireturn, 1) := dk_172 (dk_at dksX5_takes_0 13 rfl rfl)
theorem dX5_takes_14 : decode cX5_takes 14 = .ok (.aload_n 0, 1) := dk_42 (dk_at dksX5_takes_0 14 rfl rfl)
theorem dX5_takes_15 : decode cX5_takes 15 = .ok (.getfield 165, 3) := dk_180 0 165 (dk_at dksX5_takes_0 15 rfl rfl)
theorem dX5_takes_18 : decode cX5_takes 18 = .ok (.iload_n 1, 1) := dk_27 (dk_at dksX5_takes_0 18 rfl rfl)
theorem dX5_takes_19 : decode cX5_takes 19 = .ok (.iload_n 2, 1) := dk_28 (dk_at dksX5_takes_0 19 rfl rfl)
theorem dX5_takes_20 : decode cX5_takes 20 = .ok (.invokestatic 187, 3) := dk_184 0 187 (dk_at dksX5_takes_0 20 rfl rfl)
theorem dX5_takes_23 : decode cX5_takes 23 = .ok (.ifCond .ne 9, 3) := dk_154 0 9 (dk_at dksX5_takes_1 0 rfl rfl)
theorem dX5_takes_26 : decode cX5_takes 26 = .ok (.aload_n 0, 1) := dk_42 (dk_at dksX5_takes_1 3 rfl rfl)
theorem dX5_takes_27 : decode cX5_takes 27 = .ok (.iconst 2, 1) := dk_5 (dk_at dksX5_takes_1 4 rfl rfl)
theorem dX5_takes_28 : decode cX5_takes 28 = .ok (.invokevirtual 181, 3) := dk_182 0 181 (dk_at dksX5_takes_1 5 rfl rfl)
theorem dX5_takes_31 : decode cX5_takes 31 = .ok (.ireturn, 1) := dk_172 (dk_at dksX5_takes_1 8 rfl rfl)
theorem dX5_takes_32 : decode cX5_takes 32 = .ok (.aload_n 0, 1) := dk_42 (dk_at dksX5_takes_1 9 rfl rfl)
theorem dX5_takes_33 : decode cX5_takes 33 = .ok (.aload_n 0, 1) := dk_42 (dk_at dksX5_takes_1 10 rfl rfl)
theorem dX5_takes_34 : decode cX5_takes 34 = .ok (.getfield 165, 3) := dk_180 0 165 (dk_at dksX5_takes_1 11 rfl rfl)
theorem dX5_takes_37 : decode cX5_takes 37 = .ok (.putfield 191, 3) := dk_181 0 191 (dk_at dksX5_takes_1 14 rfl rfl)
theorem dX5_takes_40 : decode cX5_takes 40 = .ok (.aload_n 0, 1) := dk_42 (dk_at dksX5_takes_1 17 rfl rfl)
theorem dX5_takes_41 : decode cX5_takes 41 = .ok (.invokevirtual 184, 3) := dk_182 0 184 (dk_at dksX5_takes_1 18 rfl rfl)
theorem dX5_takes_44 : decode cX5_takes 44 = .ok (.iconst 1, 1) := dk_4 (dk_at dksX5_takes_1 21 rfl rfl)
theorem dX5_takes_45 : decode cX5_takes 45 = .ok (.ireturn, 1) := dk_172 (dk_at dksX5_takes_1 22 rfl rfl)
abbrev cX5_isIn : ByteArray := prog_26_method_7_code
def yX5_isIn : MethodName := ⟨RX5, "isIn", "(III)Z"⟩
def dkwX5_isIn_0 : List UInt8 := [26, 27, 161, 0, 12, 26, 28, 163, 0, 7, 4, 167, 0, 4, 3, 172]
abbrev dktX5_isIn_0 : List UInt8 := dkwX5_isIn_0 ++ []
theorem dksX5_isIn_0 : cX5_isIn.data.toList.drop 0 = dktX5_isIn_0 := by decide +kernel
theorem dX5_isIn_0 : decode cX5_isIn 0 = .ok (.iload_n 0, 1) := dk_26 (dk_at dksX5_isIn_0 0 rfl rfl)
theorem dX5_isIn_1 : decode cX5_isIn 1 = .ok (.iload_n 1, 1) := dk_27 (dk_at dksX5_isIn_0 1 rfl rfl)
theorem dX5_isIn_2 : decode cX5_isIn 2 = .ok (.if_icmp .lt 12, 3) := dk_161 0 12 (dk_at dksX5_isIn_0 2 rfl rfl)
theorem dX5_isIn_5 : decode cX5_isIn 5 = .ok (.iload_n 0, 1) := dk_26 (dk_at dksX5_isIn_0 5 rfl rfl)
theorem dX5_isIn_6 : decode cX5_isIn 6 = .ok (.iload_n 2, 1) := dk_28 (dk_at dksX5_isIn_0 6 rfl rfl)
theorem dX5_isIn_7 : decode cX5_isIn 7 = .ok (.if_icmp .gt 7, 3) := dk_163 0 7 (dk_at dksX5_isIn_0 7 rfl rfl)
theorem dX5_isIn_10 : decode cX5_isIn 10 = .ok (.iconst 1, 1) := dk_4 (dk_at dksX5_isIn_0 10 rfl rfl)
theorem dX5_isIn_11 : decode cX5_isIn 11 = .ok (.goto 4, 3) := dk_167 0 4 (dk_at dksX5_isIn_0 11 rfl rfl)
theorem dX5_isIn_14 : decode cX5_isIn 14 = .ok (.iconst 0, 1) := dk_3 (dk_at dksX5_isIn_0 14 rfl rfl)
theorem dX5_isIn_15 : decode cX5_isIn 15 = .ok (.ireturn, 1) := dk_172 (dk_at dksX5_isIn_0 15 rfl rfl)
abbrev cX5_fresh : ByteArray := prog_26_method_23_code
def yX5_fresh : MethodName := ⟨RX5, "fresh", "(I)Z"⟩
def dkwX5_fresh_4 : List UInt8 := [182, 0, 184, 4, 172]
abbrev dktX5_fresh_4 : List UInt8 := dkwX5_fresh_4 ++ []
def dkwX5_fresh_3 : List UInt8 := [182, 0, 198, 155, 0, 9, 42, 6, 182, 0, 181, 172, 42, 180, 0, 43, 27, 42, 180, 0, 168, 80, 42]
abbrev dktX5_fresh_3 : List UInt8 := dkwX5_fresh_3 ++ dktX5_fresh_4
def dkwX5_fresh_2 : List UInt8 := [42, 180, 0, 37, 8, 46, 182, 0, 198, 156, 0, 19, 42, 16, 44, 42, 180, 0, 37, 16, 6, 46]
abbrev dktX5_fresh_2 : List UInt8 := dkwX5_fresh_2 ++ dktX5_fresh_3
def dkwX5_fresh_1 : List UInt8 := [182, 0, 198, 156, 0, 49, 42, 16, 34, 42, 180, 0, 37, 7, 46, 182, 0, 198, 156, 0, 34, 42, 16, 38]
abbrev dktX5_fresh_1 : List UInt8 := dkwX5_fresh_1 ++ dktX5_fresh_2
def dkwX5_fresh_0 : List UInt8 := [42, 182, 0, 194, 154, 0, 9, 42, 4, 182, 0, 181, 172, 42, 16, 26, 42, 180, 0, 37, 4, 46]
abbrev dktX5_fresh_0 : List UInt8 := dkwX5_fresh_0 ++ dktX5_fresh_1
theorem dksX5_fresh_0 : cX5_fresh.data.toList.drop 0 = dktX5_fresh_0 := by decide +kernel
theorem dksX5_fresh_1 : cX5_fresh.data.toList.drop 22 = dktX5_fresh_1 := dk_seg dksX5_fresh_0 22 rfl rfl
theorem dksX5_fresh_2 : cX5_fresh.data.toList.drop 46 = dktX5_fresh_2 := dk_seg dksX5_fresh_1 24 rfl rfl
theorem dksX5_fresh_3 : cX5_fresh.data.toList.drop 68 = dktX5_fresh_3 := dk_seg dksX5_fresh_2 22 rfl rfl
theorem dksX5_fresh_4 : cX5_fresh.data.toList.drop 91 = dktX5_fresh_4 := dk_seg dksX5_fresh_3 23 rfl rfl
theorem dX5_fresh_0 : decode cX5_fresh 0 = .ok (.aload_n 0, 1) := dk_42 (dk_at dksX5_fresh_0 0 rfl rfl)
theorem dX5_fresh_1 : decode cX5_fresh 1 = .ok (.invokevirtual 194, 3) := dk_182 0 194 (dk_at dksX5_fresh_0 1 rfl rfl)
theorem dX5_fresh_4 : decode cX5_fresh 4 = .ok (.ifCond .ne 9, 3) := dk_154 0 9 (dk_at dksX5_fresh_0 4 rfl rfl)
theorem dX5_fresh_7 : decode cX5_fresh 7 = .ok (.aload_n 0, 1) := dk_42 (dk_at dksX5_fresh_0 7 rfl rfl)
theorem dX5_fresh_8 : decode cX5_fresh 8 = .ok (.iconst 1, 1) := dk_4 (dk_at dksX5_fresh_0 8 rfl rfl)
theorem dX5_fresh_9 : decode cX5_fresh 9 = .ok (.invokevirtual 181, 3) := dk_182 0 181 (dk_at dksX5_fresh_0 9 rfl rfl)
theorem dX5_fresh_12 : decode cX5_fresh 12 = .ok (.ireturn, 1) := dk_172 (dk_at dksX5_fresh_0 12 rfl rfl)
theorem dX5_fresh_13 : decode cX5_fresh 13 = .ok (.aload_n 0, 1) := dk_42 (dk_at dksX5_fresh_0 13 rfl rfl)
theorem dX5_fresh_14 : decode cX5_fresh 14 = .ok (.bipush 26, 2) := dk_16 26 (dk_at dksX5_fresh_0 14 rfl rfl)
theorem dX5_fresh_16 : decode cX5_fresh 16 = .ok (.aload_n 0, 1) := dk_42 (dk_at dksX5_fresh_0 16 rfl rfl)
theorem dX5_fresh_17 : decode cX5_fresh 17 = .ok (.getfield 37, 3) := dk_180 0 37 (dk_at dksX5_fresh_0 17 rfl rfl)
theorem dX5_fresh_20 : decode cX5_fresh 20 = .ok (.iconst 1, 1) := dk_4 (dk_at dksX5_fresh_0 20 rfl rfl)
theorem dX5_fresh_21 : decode cX5_fresh 21 = .ok (.iaload, 1) := dk_46 (dk_at dksX5_fresh_0 21 rfl rfl)
theorem dX5_fresh_22 : decode cX5_fresh 22 = .ok (.invokevirtual 198, 3) := dk_182 0 198 (dk_at dksX5_fresh_1 0 rfl rfl)
theorem dX5_fresh_25 : decode cX5_fresh 25 = .ok (.ifCond .ge 49, 3) := dk_156 0 49 (dk_at dksX5_fresh_1 3 rfl rfl)
theorem dX5_fresh_28 : decode cX5_fresh 28 = .ok (.aload_n 0, 1) := dk_42 (dk_at dksX5_fresh_1 6 rfl rfl)
theorem dX5_fresh_29 : decode cX5_fresh 29 = .ok (.bipush 34, 2) := dk_16 34 (dk_at dksX5_fresh_1 7 rfl rfl)
theorem dX5_fresh_31 : decode cX5_fresh 31 = .ok (.aload_n 0, 1) := dk_42 (dk_at dksX5_fresh_1 9 rfl rfl)
theorem dX5_fresh_32 : decode cX5_fresh 32 = .ok (.getfield 37, 3) := dk_180 0 37 (dk_at dksX5_fresh_1 10 rfl rfl)
theorem dX5_fresh_35 : decode cX5_fresh 35 = .ok (.iconst 4, 1) := dk_7 (dk_at dksX5_fresh_1 13 rfl rfl)
theorem dX5_fresh_36 : decode cX5_fresh 36 = .ok (.iaload, 1) := dk_46 (dk_at dksX5_fresh_1 14 rfl rfl)
theorem dX5_fresh_37 : decode cX5_fresh 37 = .ok (.invokevirtual 198, 3) := dk_182 0 198 (dk_at dksX5_fresh_1 15 rfl rfl)
theorem dX5_fresh_40 : decode cX5_fresh 40 = .ok (.ifCond .ge 34, 3) := dk_156 0 34 (dk_at dksX5_fresh_1 18 rfl rfl)
theorem dX5_fresh_43 : decode cX5_fresh 43 = .ok (.aload_n 0, 1) := dk_42 (dk_at dksX5_fresh_1 21 rfl rfl)
theorem dX5_fresh_44 : decode cX5_fresh 44 = .ok (.bipush 38, 2) := dk_16 38 (dk_at dksX5_fresh_1 22 rfl rfl)
theorem dX5_fresh_46 : decode cX5_fresh 46 = .ok (.aload_n 0, 1) := dk_42 (dk_at dksX5_fresh_2 0 rfl rfl)
theorem dX5_fresh_47 : decode cX5_fresh 47 = .ok (.getfield 37, 3) := dk_180 0 37 (dk_at dksX5_fresh_2 1 rfl rfl)
theorem dX5_fresh_50 : decode cX5_fresh 50 = .ok (.iconst 5, 1) := dk_8 (dk_at dksX5_fresh_2 4 rfl rfl)
theorem dX5_fresh_51 : decode cX5_fresh 51 = .ok (.iaload, 1) := dk_46 (dk_at dksX5_fresh_2 5 rfl rfl)
theorem dX5_fresh_52 : decode cX5_fresh 52 = .ok (.invokevirtual 198, 3) := dk_182 0 198 (dk_at dksX5_fresh_2 6 rfl rfl)
theorem dX5_fresh_55 : decode cX5_fresh 55 = .ok (.ifCond .ge 19, 3) := dk_156 0 19 (dk_at dksX5_fresh_2 9 rfl rfl)
theorem dX5_fresh_58 : decode cX5_fresh 58 = .ok (.aload_n 0, 1) := dk_42 (dk_at dksX5_fresh_2 12 rfl rfl)
theorem dX5_fresh_59 : decode cX5_fresh 59 = .ok (.bipush 44, 2) := dk_16 44 (dk_at dksX5_fresh_2 13 rfl rfl)
theorem dX5_fresh_61 : decode cX5_fresh 61 = .ok (.aload_n 0, 1) := dk_42 (dk_at dksX5_fresh_2 15 rfl rfl)
theorem dX5_fresh_62 : decode cX5_fresh 62 = .ok (.getfield 37, 3) := dk_180 0 37 (dk_at dksX5_fresh_2 16 rfl rfl)
theorem dX5_fresh_65 : decode cX5_fresh 65 = .ok (.bipush 6, 2) := dk_16 6 (dk_at dksX5_fresh_2 19 rfl rfl)
theorem dX5_fresh_67 : decode cX5_fresh 67 = .ok (.iaload, 1) := dk_46 (dk_at dksX5_fresh_2 21 rfl rfl)
theorem dX5_fresh_68 : decode cX5_fresh 68 = .ok (.invokevirtual 198, 3) := dk_182 0 198 (dk_at dksX5_fresh_3 0 rfl rfl)
theorem dX5_fresh_71 : decode cX5_fresh 71 = .ok (.ifCond .lt 9, 3) := dk_155 0 9 (dk_at dksX5_fresh_3 3 rfl rfl)
theorem dX5_fresh_74 : decode cX5_fresh 74 = .ok (.aload_n 0, 1) := dk_42 (dk_at dksX5_fresh_3 6 rfl rfl)
theorem dX5_fresh_75 : decode cX5_fresh 75 = .ok (.iconst 3, 1) := dk_6 (dk_at dksX5_fresh_3 7 rfl rfl)
theorem dX5_fresh_76 : decode cX5_fresh 76 = .ok (.invokevirtual 181, 3) := dk_182 0 181 (dk_at dksX5_fresh_3 8 rfl rfl)
theorem dX5_fresh_79 : decode cX5_fresh 79 = .ok (.ireturn, 1) := dk_172 (dk_at dksX5_fresh_3 11 rfl rfl)
theorem dX5_fresh_80 : decode cX5_fresh 80 = .ok (.aload_n 0, 1) := dk_42 (dk_at dksX5_fresh_3 12 rfl rfl)
theorem dX5_fresh_81 : decode cX5_fresh 81 = .ok (.getfield 43, 3) := dk_180 0 43 (dk_at dksX5_fresh_3 13 rfl rfl)
theorem dX5_fresh_84 : decode cX5_fresh 84 = .ok (.iload_n 1, 1) := dk_27 (dk_at dksX5_fresh_3 16 rfl rfl)
theorem dX5_fresh_85 : decode cX5_fresh 85 = .ok (.aload_n 0, 1) := dk_42 (dk_at dksX5_fresh_3 17 rfl rfl)
theorem dX5_fresh_86 : decode cX5_fresh 86 = .ok (.getfield 168, 3) := dk_180 0 168 (dk_at dksX5_fresh_3 18 rfl rfl)
theorem dX5_fresh_89 : decode cX5_fresh 89 = .ok (.lastore, 1) := dk_80 (dk_at dksX5_fresh_3 21 rfl rfl)
theorem dX5_fresh_90 : decode cX5_fresh 90 = .ok (.aload_n 0, 1) := dk_42 (dk_at dksX5_fresh_3 22 rfl rfl)
theorem dX5_fresh_91 : decode cX5_fresh 91 = .ok (.invokevirtual 184, 3) := dk_182 0 184 (dk_at dksX5_fresh_4 0 rfl rfl)
theorem dX5_fresh_94 : decode cX5_fresh 94 = .ok (.iconst 1, 1) := dk_4 (dk_at dksX5_fresh_4 3 rfl rfl)
theorem dX5_fresh_95 : decode cX5_fresh 95 = .ok (.ireturn, 1) := dk_172 (dk_at dksX5_fresh_4 4 rfl rfl)
abbrev cX5_isName : ByteArray := prog_26_method_20_code
def yX5_isName : MethodName := ⟨RX5, "isName", "()Z"⟩
def dkwX5_isName_2 : List UInt8 := [132, 2, 1, 167, 255, 223, 27, 172]
abbrev dktX5_isName_2 : List UInt8 := dkwX5_isName_2 ++ []
def dkwX5_isName_1 : List UInt8 := [153, 0, 21, 42, 180, 0, 168, 42, 180, 0, 47, 28, 47, 148, 153, 0, 7, 4, 167, 0, 4, 3, 60]
abbrev dktX5_isName_1 : List UInt8 := dkwX5_isName_1 ++ dktX5_isName_2
def dkwX5_isName_0 : List UInt8 := [42, 180, 0, 155, 4, 160, 0, 7, 4, 167, 0, 4, 3, 60, 3, 61, 28, 16, 27, 162, 0, 33, 27]
abbrev dktX5_isName_0 : List UInt8 := dkwX5_isName_0 ++ dktX5_isName_1
theorem dksX5_isName_0 : cX5_isName.data.toList.drop 0 = dktX5_isName_0 := by decide +kernel
theorem dksX5_isName_1 : cX5_isName.data.toList.drop 23 = dktX5_isName_1 := dk_seg dksX5_isName_0 23 rfl rfl
theorem dksX5_isName_2 : cX5_isName.data.toList.drop 46 = dktX5_isName_2 := dk_seg dksX5_isName_1 23 rfl rfl
theorem dX5_isName_0 : decode cX5_isName 0 = .ok (.aload_n 0, 1) := dk_42 (dk_at dksX5_isName_0 0 rfl rfl)
theorem dX5_isName_1 : decode cX5_isName 1 = .ok (.getfield 155, 3) := dk_180 0 155 (dk_at dksX5_isName_0 1 rfl rfl)
theorem dX5_isName_4 : decode cX5_isName 4 = .ok (.iconst 1, 1) := dk_4 (dk_at dksX5_isName_0 4 rfl rfl)
theorem dX5_isName_5 : decode cX5_isName 5 = .ok (.if_icmp .ne 7, 3) := dk_160 0 7 (dk_at dksX5_isName_0 5 rfl rfl)
theorem dX5_isName_8 : decode cX5_isName 8 = .ok (.iconst 1, 1) := dk_4 (dk_at dksX5_isName_0 8 rfl rfl)
theorem dX5_isName_9 : decode cX5_isName 9 = .ok (.goto 4, 3) := dk_167 0 4 (dk_at dksX5_isName_0 9 rfl rfl)
theorem dX5_isName_12 : decode cX5_isName 12 = .ok (.iconst 0, 1) := dk_3 (dk_at dksX5_isName_0 12 rfl rfl)
theorem dX5_isName_13 : decode cX5_isName 13 = .ok (.istore_n 1, 1) := dk_60 (dk_at dksX5_isName_0 13 rfl rfl)
theorem dX5_isName_14 : decode cX5_isName 14 = .ok (.iconst 0, 1) := dk_3 (dk_at dksX5_isName_0 14 rfl rfl)
theorem dX5_isName_15 : decode cX5_isName 15 = .ok (.istore_n 2, 1) := dk_61 (dk_at dksX5_isName_0 15 rfl rfl)
theorem dX5_isName_16 : decode cX5_isName 16 = .ok (.iload_n 2, 1) := dk_28 (dk_at dksX5_isName_0 16 rfl rfl)
theorem dX5_isName_17 : decode cX5_isName 17 = .ok (.bipush 27, 2) := dk_16 27 (dk_at dksX5_isName_0 17 rfl rfl)
theorem dX5_isName_19 : decode cX5_isName 19 = .ok (.if_icmp .ge 33, 3) := dk_162 0 33 (dk_at dksX5_isName_0 19 rfl rfl)
theorem dX5_isName_22 : decode cX5_isName 22 = .ok (.iload_n 1, 1) := dk_27 (dk_at dksX5_isName_0 22 rfl rfl)
theorem dX5_isName_23 : decode cX5_isName 23 = .ok (.ifCond .eq 21, 3) := dk_153 0 21 (dk_at dksX5_isName_1 0 rfl rfl)
theorem dX5_isName_26 : decode cX5_isName 26 = .ok (.aload_n 0, 1) := dk_42 (dk_at dksX5_isName_1 3 rfl rfl)
theorem dX5_isName_27 : decode cX5_isName 27 = .ok (.getfield 168, 3) := dk_180 0 168 (dk_at dksX5_isName_1 4 rfl rfl)
theorem dX5_isName_30 : decode cX5_isName 30 = .ok (.aload_n 0, 1) := dk_42 (dk_at dksX5_isName_1 7 rfl rfl)
theorem dX5_isName_31 : decode cX5_isName 31 = .ok (.getfield 47, 3) := dk_180 0 47 (dk_at dksX5_isName_1 8 rfl rfl)
theorem dX5_isName_34 : decode cX5_isName 34 = .ok (.iload_n 2, 1) := dk_28 (dk_at dksX5_isName_1 11 rfl rfl)
theorem dX5_isName_35 : decode cX5_isName 35 = .ok (.laload, 1) := dk_47 (dk_at dksX5_isName_1 12 rfl rfl)
theorem dX5_isName_36 : decode cX5_isName 36 = .ok (.lcmp, 1) := dk_148 (dk_at dksX5_isName_1 13 rfl rfl)
theorem dX5_isName_37 : decode cX5_isName 37 = .ok (.ifCond .eq 7, 3) := dk_153 0 7 (dk_at dksX5_isName_1 14 rfl rfl)
theorem dX5_isName_40 : decode cX5_isName 40 = .ok (.iconst 1, 1) := dk_4 (dk_at dksX5_isName_1 17 rfl rfl)
theorem dX5_isName_41 : decode cX5_isName 41 = .ok (.goto 4, 3) := dk_167 0 4 (dk_at dksX5_isName_1 18 rfl rfl)
theorem dX5_isName_44 : decode cX5_isName 44 = .ok (.iconst 0, 1) := dk_3 (dk_at dksX5_isName_1 21 rfl rfl)
theorem dX5_isName_45 : decode cX5_isName 45 = .ok (.istore_n 1, 1) := dk_60 (dk_at dksX5_isName_1 22 rfl rfl)
theorem dX5_isName_46 : decode cX5_isName 46 = .ok (.iinc 2 1, 3) := dk_132 2 1 (dk_at dksX5_isName_2 0 rfl rfl)
theorem dX5_isName_49 : decode cX5_isName 49 = .ok (.goto (-33), 3) := dk_167 255 223 (dk_at dksX5_isName_2 3 rfl rfl)
theorem dX5_isName_52 : decode cX5_isName 52 = .ok (.iload_n 1, 1) := dk_27 (dk_at dksX5_isName_2 6 rfl rfl)
theorem dX5_isName_53 : decode cX5_isName 53 = .ok (.ireturn, 1) := dk_172 (dk_at dksX5_isName_2 7 rfl rfl)
abbrev cX5_find : ByteArray := prog_26_method_22_code
def yX5_find : MethodName := ⟨RX5, "find", "(II)I"⟩
def dkwX5_find_1 : List UInt8 := [172, 132, 3, 1, 167, 255, 230, 2, 172]
abbrev dktX5_find_1 : List UInt8 := dkwX5_find_1 ++ []
def dkwX5_find_0 : List UInt8 := [3, 62, 29, 28, 162, 0, 27, 42, 180, 0, 43, 27, 29, 96, 47, 42, 180, 0, 168, 148, 154, 0, 5, 29]
abbrev dktX5_find_0 : List UInt8 := dkwX5_find_0 ++ dktX5_find_1
theorem dksX5_find_0 : cX5_find.data.toList.drop 0 = dktX5_find_0 := by decide +kernel
theorem dksX5_find_1 : cX5_find.data.toList.drop 24 = dktX5_find_1 := dk_seg dksX5_find_0 24 rfl rfl
theorem dX5_find_0 : decode cX5_find 0 = .ok (.iconst 0, 1) := dk_3 (dk_at dksX5_find_0 0 rfl rfl)
theorem dX5_find_1 : decode cX5_find 1 = .ok (.istore_n 3, 1) := dk_62 (dk_at dksX5_find_0 1 rfl rfl)
theorem dX5_find_2 : decode cX5_find 2 = .ok (.iload_n 3, 1) := dk_29 (dk_at dksX5_find_0 2 rfl rfl)
theorem dX5_find_3 : decode cX5_find 3 = .ok (.iload_n 2, 1) := dk_28 (dk_at dksX5_find_0 3 rfl rfl)
theorem dX5_find_4 : decode cX5_find 4 = .ok (.if_icmp .ge 27, 3) := dk_162 0 27 (dk_at dksX5_find_0 4 rfl rfl)
theorem dX5_find_7 : decode cX5_find 7 = .ok (.aload_n 0, 1) := dk_42 (dk_at dksX5_find_0 7 rfl rfl)
theorem dX5_find_8 : decode cX5_find 8 = .ok (.getfield 43, 3) := dk_180 0 43 (dk_at dksX5_find_0 8 rfl rfl)
theorem dX5_find_11 : decode cX5_find 11 = .ok (.iload_n 1, 1) := dk_27 (dk_at dksX5_find_0 11 rfl rfl)
theorem dX5_find_12 : decode cX5_find 12 = .ok (.iload_n 3, 1) := dk_29 (dk_at dksX5_find_0 12 rfl rfl)
theorem dX5_find_13 : decode cX5_find 13 = .ok (.iadd, 1) := dk_96 (dk_at dksX5_find_0 13 rfl rfl)
theorem dX5_find_14 : decode cX5_find 14 = .ok (.laload, 1) := dk_47 (dk_at dksX5_find_0 14 rfl rfl)
theorem dX5_find_15 : decode cX5_find 15 = .ok (.aload_n 0, 1) := dk_42 (dk_at dksX5_find_0 15 rfl rfl)
theorem dX5_find_16 : decode cX5_find 16 = .ok (.getfield 168, 3) := dk_180 0 168 (dk_at dksX5_find_0 16 rfl rfl)
theorem dX5_find_19 : decode cX5_find 19 = .ok (.lcmp, 1) := dk_148 (dk_at dksX5_find_0 19 rfl rfl)
theorem dX5_find_20 : decode cX5_find 20 = .ok (.ifCond .ne 5, 3) := dk_154 0 5 (dk_at dksX5_find_0 20 rfl rfl)
theorem dX5_find_23 : decode cX5_find 23 = .ok (.iload_n 3, 1) := dk_29 (dk_at dksX5_find_0 23 rfl rfl)
theorem dX5_find_24 : decode cX5_find 24 = .ok (.ireturn, 1) := dk_172 (dk_at dksX5_find_1 0 rfl rfl)
theorem dX5_find_25 : decode cX5_find 25 = .ok (.iinc 3 1, 3) := dk_132 3 1 (dk_at dksX5_find_1 1 rfl rfl)
theorem dX5_find_28 : decode cX5_find 28 = .ok (.goto (-26), 3) := dk_167 255 230 (dk_at dksX5_find_1 4 rfl rfl)
theorem dX5_find_31 : decode cX5_find 31 = .ok (.iconst (-1), 1) := dk_2 (dk_at dksX5_find_1 7 rfl rfl)
theorem dX5_find_32 : decode cX5_find 32 = .ok (.ireturn, 1) := dk_172 (dk_at dksX5_find_1 8 rfl rfl)
abbrev cX5_takesName : ByteArray := prog_26_method_25_code
def yX5_takesName : MethodName := ⟨RX5, "takesName", "(II)Z"⟩
def dkwX5_takesName_0 : List UInt8 := [42, 27, 28, 182, 0, 202, 154, 0, 5, 3, 172, 42, 182, 0, 184, 4, 172]
abbrev dktX5_takesName_0 : List UInt8 := dkwX5_takesName_0 ++ []
theorem dksX5_takesName_0 : cX5_takesName.data.toList.drop 0 = dktX5_takesName_0 := by decide +kernel
theorem dX5_takesName_0 : decode cX5_takesName 0 = .ok (.aload_n 0, 1) := dk_42 (dk_at dksX5_takesName_0 0 rfl rfl)
theorem dX5_takesName_1 : decode cX5_takesName 1 = .ok (.iload_n 1, 1) := dk_27 (dk_at dksX5_takesName_0 1 rfl rfl)
theorem dX5_takesName_2 : decode cX5_takesName 2 = .ok (.iload_n 2, 1) := dk_28 (dk_at dksX5_takesName_0 2 rfl rfl)
theorem dX5_takesName_3 : decode cX5_takesName 3 = .ok (.invokevirtual 202, 3) := dk_182 0 202 (dk_at dksX5_takesName_0 3 rfl rfl)
theorem dX5_takesName_6 : decode cX5_takesName 6 = .ok (.ifCond .ne 5, 3) := dk_154 0 5 (dk_at dksX5_takesName_0 6 rfl rfl)
theorem dX5_takesName_9 : decode cX5_takesName 9 = .ok (.iconst 0, 1) := dk_3 (dk_at dksX5_takesName_0 9 rfl rfl)
theorem dX5_takesName_10 : decode cX5_takesName 10 = .ok (.ireturn, 1) := dk_172 (dk_at dksX5_takesName_0 10 rfl rfl)
theorem dX5_takesName_11 : decode cX5_takesName 11 = .ok (.aload_n 0, 1) := dk_42 (dk_at dksX5_takesName_0 11 rfl rfl)
theorem dX5_takesName_12 : decode cX5_takesName 12 = .ok (.invokevirtual 184, 3) := dk_182 0 184 (dk_at dksX5_takesName_0 12 rfl rfl)
theorem dX5_takesName_15 : decode cX5_takesName 15 = .ok (.iconst 1, 1) := dk_4 (dk_at dksX5_takesName_0 15 rfl rfl)
theorem dX5_takesName_16 : decode cX5_takesName 16 = .ok (.ireturn, 1) := dk_172 (dk_at dksX5_takesName_0 16 rfl rfl)
abbrev cX5_looksAt : ByteArray := prog_26_method_24_code
def yX5_looksAt : MethodName := ⟨RX5, "looksAt", "(II)Z"⟩
def dkwX5_looksAt_1 : List UInt8 := [180, 0, 191, 156, 0, 11, 42, 6, 182, 0, 181, 153, 0, 7, 4, 167, 0, 4, 3, 172]
abbrev dktX5_looksAt_1 : List UInt8 := dkwX5_looksAt_1 ++ []
def dkwX5_looksAt_0 : List UInt8 := [42, 182, 0, 194, 154, 0, 9, 42, 4, 182, 0, 181, 172, 42, 42, 27, 28, 182, 0, 198, 181, 0, 191, 42]
abbrev dktX5_looksAt_0 : List UInt8 := dkwX5_looksAt_0 ++ dktX5_looksAt_1
theorem dksX5_looksAt_0 : cX5_looksAt.data.toList.drop 0 = dktX5_looksAt_0 := by decide +kernel
theorem dksX5_looksAt_1 : cX5_looksAt.data.toList.drop 24 = dktX5_looksAt_1 := dk_seg dksX5_looksAt_0 24 rfl rfl
theorem dX5_looksAt_0 : decode cX5_looksAt 0 = .ok (.aload_n 0, 1) := dk_42 (dk_at dksX5_looksAt_0 0 rfl rfl)
theorem dX5_looksAt_1 : decode cX5_looksAt 1 = .ok (.invokevirtual 194, 3) := dk_182 0 194 (dk_at dksX5_looksAt_0 1 rfl rfl)
theorem dX5_looksAt_4 : decode cX5_looksAt 4 = .ok (.ifCond .ne 9, 3) := dk_154 0 9 (dk_at dksX5_looksAt_0 4 rfl rfl)
theorem dX5_looksAt_7 : decode cX5_looksAt 7 = .ok (.aload_n 0, 1) := dk_42 (dk_at dksX5_looksAt_0 7 rfl rfl)
theorem dX5_looksAt_8 : decode cX5_looksAt 8 = .ok (.iconst 1, 1) := dk_4 (dk_at dksX5_looksAt_0 8 rfl rfl)
theorem dX5_looksAt_9 : decode cX5_looksAt 9 = .ok (.invokevirtual 181, 3) := dk_182 0 181 (dk_at dksX5_looksAt_0 9 rfl rfl)
theorem dX5_looksAt_12 : decode cX5_looksAt 12 = .ok (.ireturn, 1) := dk_172 (dk_at dksX5_looksAt_0 12 rfl rfl)
theorem dX5_looksAt_13 : decode cX5_looksAt 13 = .ok (.aload_n 0, 1) := dk_42 (dk_at dksX5_looksAt_0 13 rfl rfl)
theorem dX5_looksAt_14 : decode cX5_looksAt 14 = .ok (.aload_n 0, 1) := dk_42 (dk_at dksX5_looksAt_0 14 rfl rfl)
theorem dX5_looksAt_15 : decode cX5_looksAt 15 = .ok (.iload_n 1, 1) := dk_27 (dk_at dksX5_looksAt_0 15 rfl rfl)
theorem dX5_looksAt_16 : decode cX5_looksAt 16 = .ok (.iload_n 2, 1) := dk_28 (dk_at dksX5_looksAt_0 16 rfl rfl)
theorem dX5_looksAt_17 : decode cX5_looksAt 17 = .ok (.invokevirtual 198, 3) := dk_182 0 198 (dk_at dksX5_looksAt_0 17 rfl rfl)
theorem dX5_looksAt_20 : decode cX5_looksAt 20 = .ok (.putfield 191, 3) := dk_181 0 191 (dk_at dksX5_looksAt_0 20 rfl rfl)
theorem dX5_looksAt_23 : decode cX5_looksAt 23 = .ok (.aload_n 0, 1) := dk_42 (dk_at dksX5_looksAt_0 23 rfl rfl)
theorem dX5_looksAt_24 : decode cX5_looksAt 24 = .ok (.getfield 191, 3) := dk_180 0 191 (dk_at dksX5_looksAt_1 0 rfl rfl)
theorem dX5_looksAt_27 : decode cX5_looksAt 27 = .ok (.ifCond .ge 11, 3) := dk_156 0 11 (dk_at dksX5_looksAt_1 3 rfl rfl)
theorem dX5_looksAt_30 : decode cX5_looksAt 30 = .ok (.aload_n 0, 1) := dk_42 (dk_at dksX5_looksAt_1 6 rfl rfl)
theorem dX5_looksAt_31 : decode cX5_looksAt 31 = .ok (.iconst 3, 1) := dk_6 (dk_at dksX5_looksAt_1 7 rfl rfl)
theorem dX5_looksAt_32 : decode cX5_looksAt 32 = .ok (.invokevirtual 181, 3) := dk_182 0 181 (dk_at dksX5_looksAt_1 8 rfl rfl)
theorem dX5_looksAt_35 : decode cX5_looksAt 35 = .ok (.ifCond .eq 7, 3) := dk_153 0 7 (dk_at dksX5_looksAt_1 11 rfl rfl)
theorem dX5_looksAt_38 : decode cX5_looksAt 38 = .ok (.iconst 1, 1) := dk_4 (dk_at dksX5_looksAt_1 14 rfl rfl)
theorem dX5_looksAt_39 : decode cX5_looksAt 39 = .ok (.goto 4, 3) := dk_167 0 4 (dk_at dksX5_looksAt_1 15 rfl rfl)
theorem dX5_looksAt_42 : decode cX5_looksAt 42 = .ok (.iconst 0, 1) := dk_3 (dk_at dksX5_looksAt_1 18 rfl rfl)
theorem dX5_looksAt_43 : decode cX5_looksAt 43 = .ok (.ireturn, 1) := dk_172 (dk_at dksX5_looksAt_1 19 rfl rfl)
abbrev cX5_bitOf : ByteArray := prog_26_method_8_code
def yX5_bitOf : MethodName := ⟨RX5, "bitOf", "(II)Z"⟩
def dkwX5_bitOf_0 : List UInt8 := [26, 27, 122, 4, 126, 4, 160, 0, 7, 4, 167, 0, 4, 3, 172]
abbrev dktX5_bitOf_0 : List UInt8 := dkwX5_bitOf_0 ++ []
theorem dksX5_bitOf_0 : cX5_bitOf.data.toList.drop 0 = dktX5_bitOf_0 := by decide +kernel
theorem dX5_bitOf_0 : decode cX5_bitOf 0 = .ok (.iload_n 0, 1) := dk_26 (dk_at dksX5_bitOf_0 0 rfl rfl)
theorem dX5_bitOf_1 : decode cX5_bitOf 1 = .ok (.iload_n 1, 1) := dk_27 (dk_at dksX5_bitOf_0 1 rfl rfl)
theorem dX5_bitOf_2 : decode cX5_bitOf 2 = .ok (.ishr, 1) := dk_122 (dk_at dksX5_bitOf_0 2 rfl rfl)
theorem dX5_bitOf_3 : decode cX5_bitOf 3 = .ok (.iconst 1, 1) := dk_4 (dk_at dksX5_bitOf_0 3 rfl rfl)
theorem dX5_bitOf_4 : decode cX5_bitOf 4 = .ok (.iand, 1) := dk_126 (dk_at dksX5_bitOf_0 4 rfl rfl)
theorem dX5_bitOf_5 : decode cX5_bitOf 5 = .ok (.iconst 1, 1) := dk_4 (dk_at dksX5_bitOf_0 5 rfl rfl)
theorem dX5_bitOf_6 : decode cX5_bitOf 6 = .ok (.if_icmp .ne 7, 3) := dk_160 0 7 (dk_at dksX5_bitOf_0 6 rfl rfl)
theorem dX5_bitOf_9 : decode cX5_bitOf 9 = .ok (.iconst 1, 1) := dk_4 (dk_at dksX5_bitOf_0 9 rfl rfl)
theorem dX5_bitOf_10 : decode cX5_bitOf 10 = .ok (.goto 4, 3) := dk_167 0 4 (dk_at dksX5_bitOf_0 10 rfl rfl)
theorem dX5_bitOf_13 : decode cX5_bitOf 13 = .ok (.iconst 0, 1) := dk_3 (dk_at dksX5_bitOf_0 13 rfl rfl)
theorem dX5_bitOf_14 : decode cX5_bitOf 14 = .ok (.ireturn, 1) := dk_172 (dk_at dksX5_bitOf_0 14 rfl rfl)
abbrev cX5_readPromise : ByteArray := prog_26_method_27_code
def yX5_readPromise : MethodName := ⟨RX5, "readPromise", "()Z"⟩
def dkwX5_readPromise_13 : List UInt8 := [180, 0, 37, 16, 6, 92, 46, 4, 96, 79, 4, 172]
abbrev dktX5_readPromise_13 : List UInt8 := dkwX5_readPromise_13 ++ []
def dkwX5_readPromise_12 : List UInt8 := [182, 0, 220, 154, 0, 5, 3, 172, 42, 180, 0, 37, 16, 82, 27, 96, 42, 180, 0, 191, 4, 96, 79, 42]
abbrev dktX5_readPromise_12 : List UInt8 := dkwX5_readPromise_12 ++ dktX5_readPromise_13
def dkwX5_readPromise_11 : List UInt8 := [20, 0, 109, 182, 0, 206, 153, 0, 39, 42, 182, 0, 184, 42, 16, 38, 42, 180, 0, 37, 8, 46]
abbrev dktX5_readPromise_11 : List UInt8 := dkwX5_readPromise_11 ++ dktX5_readPromise_12
def dkwX5_readPromise_10 : List UInt8 := [20, 0, 107, 182, 0, 206, 153, 0, 7, 42, 182, 0, 184, 42, 180, 0, 37, 16, 82, 27, 96, 3, 79, 42]
abbrev dktX5_readPromise_10 : List UInt8 := dkwX5_readPromise_10 ++ dktX5_readPromise_11
def dkwX5_readPromise_9 : List UInt8 := [180, 0, 37, 16, 74, 27, 96, 42, 20, 0, 107, 182, 0, 206, 153, 0, 7, 4, 167, 0, 4, 3, 79, 42]
abbrev dktX5_readPromise_9 : List UInt8 := dkwX5_readPromise_9 ++ dktX5_readPromise_10
def dkwX5_readPromise_8 : List UInt8 := [4, 6, 182, 0, 214, 154, 0, 5, 3, 172, 42, 180, 0, 37, 16, 66, 27, 96, 42, 180, 0, 191, 79, 42]
abbrev dktX5_readPromise_8 : List UInt8 := dkwX5_readPromise_8 ++ dktX5_readPromise_9
def dkwX5_readPromise_7 : List UInt8 := [16, 23, 182, 0, 214, 154, 0, 5, 3, 172, 42, 180, 0, 37, 16, 58, 27, 96, 42, 180, 0, 191, 79, 42]
abbrev dktX5_readPromise_7 : List UInt8 := dkwX5_readPromise_7 ++ dktX5_readPromise_8
def dkwX5_readPromise_6 : List UInt8 := [42, 180, 0, 37, 16, 50, 27, 96, 42, 180, 0, 191, 79, 42, 42, 180, 0, 37, 16, 50, 27, 96, 46]
abbrev dktX5_readPromise_6 : List UInt8 := dkwX5_readPromise_6 ++ dktX5_readPromise_7
def dkwX5_readPromise_5 : List UInt8 := [180, 0, 37, 16, 42, 27, 96, 42, 180, 0, 191, 79, 42, 3, 16, 23, 182, 0, 214, 154, 0, 5, 3, 172]
abbrev dktX5_readPromise_5 : List UInt8 := dkwX5_readPromise_5 ++ dktX5_readPromise_6
def dkwX5_readPromise_4 : List UInt8 := [180, 0, 191, 79, 42, 16, 26, 42, 180, 0, 37, 4, 46, 182, 0, 220, 154, 0, 5, 3, 172, 42]
abbrev dktX5_readPromise_4 : List UInt8 := dkwX5_readPromise_4 ++ dktX5_readPromise_5
def dkwX5_readPromise_3 : List UInt8 := [180, 0, 37, 8, 46, 182, 0, 220, 154, 0, 5, 3, 172, 42, 180, 0, 37, 16, 34, 27, 96, 42]
abbrev dktX5_readPromise_3 : List UInt8 := dkwX5_readPromise_3 ++ dktX5_readPromise_4
def dkwX5_readPromise_2 : List UInt8 := [154, 0, 5, 3, 172, 42, 180, 0, 37, 16, 26, 27, 96, 42, 180, 0, 191, 79, 42, 16, 38, 42]
abbrev dktX5_readPromise_2 : List UInt8 := dkwX5_readPromise_2 ++ dktX5_readPromise_3
def dkwX5_readPromise_1 : List UInt8 := [42, 16, 44, 27, 96, 182, 0, 217, 153, 0, 18, 42, 16, 34, 42, 180, 0, 37, 7, 46, 182, 0, 220]
abbrev dktX5_readPromise_1 : List UInt8 := dkwX5_readPromise_1 ++ dktX5_readPromise_2
def dkwX5_readPromise_0 : List UInt8 := [42, 180, 0, 37, 16, 6, 46, 60, 27, 16, 8, 160, 0, 9, 42, 7, 182, 0, 181, 172, 42, 182, 0, 184]
abbrev dktX5_readPromise_0 : List UInt8 := dkwX5_readPromise_0 ++ dktX5_readPromise_1
theorem dksX5_readPromise_0 : cX5_readPromise.data.toList.drop 0 = dktX5_readPromise_0 := by decide +kernel
theorem dksX5_readPromise_1 : cX5_readPromise.data.toList.drop 24 = dktX5_readPromise_1 := dk_seg dksX5_readPromise_0 24 rfl rfl
theorem dksX5_readPromise_2 : cX5_readPromise.data.toList.drop 47 = dktX5_readPromise_2 := dk_seg dksX5_readPromise_1 23 rfl rfl
theorem dksX5_readPromise_3 : cX5_readPromise.data.toList.drop 69 = dktX5_readPromise_3 := dk_seg dksX5_readPromise_2 22 rfl rfl
theorem dksX5_readPromise_4 : cX5_readPromise.data.toList.drop 91 = dktX5_readPromise_4 := dk_seg dksX5_readPromise_3 22 rfl rfl
theorem dksX5_readPromise_5 : cX5_readPromise.data.toList.drop 113 = dktX5_readPromise_5 := dk_seg dksX5_readPromise_4 22 rfl rfl
theorem dksX5_readPromise_6 : cX5_readPromise.data.toList.drop 137 = dktX5_readPromise_6 := dk_seg dksX5_readPromise_5 24 rfl rfl
theorem dksX5_readPromise_7 : cX5_readPromise.data.toList.drop 160 = dktX5_readPromise_7 := dk_seg dksX5_readPromise_6 23 rfl rfl
theorem dksX5_readPromise_8 : cX5_readPromise.data.toList.drop 184 = dktX5_readPromise_8 := dk_seg dksX5_readPromise_7 24 rfl rfl
theorem dksX5_readPromise_9 : cX5_readPromise.data.toList.drop 208 = dktX5_readPromise_9 := dk_seg dksX5_readPromise_8 24 rfl rfl
theorem dksX5_readPromise_10 : cX5_readPromise.data.toList.drop 232 = dktX5_readPromise_10 := dk_seg dksX5_readPromise_9 24 rfl rfl
theorem dksX5_readPromise_11 : cX5_readPromise.data.toList.drop 256 = dktX5_readPromise_11 := dk_seg dksX5_readPromise_10 24 rfl rfl
theorem dksX5_readPromise_12 : cX5_readPromise.data.toList.drop 278 = dktX5_readPromise_12 := dk_seg dksX5_readPromise_11 22 rfl rfl
theorem dksX5_readPromise_13 : cX5_readPromise.data.toList.drop 302 = dktX5_readPromise_13 := dk_seg dksX5_readPromise_12 24 rfl rfl
theorem dX5_readPromise_0 : decode cX5_readPromise 0 = .ok (.aload_n 0, 1) := dk_42 (dk_at dksX5_readPromise_0 0 rfl rfl)
theorem dX5_readPromise_1 : decode cX5_readPromise 1 = .ok (.getfield 37, 3) := dk_180 0 37 (dk_at dksX5_readPromise_0 1 rfl rfl)
theorem dX5_readPromise_4 : decode cX5_readPromise 4 = .ok (.bipush 6, 2) := dk_16 6 (dk_at dksX5_readPromise_0 4 rfl rfl)
theorem dX5_readPromise_6 : decode cX5_readPromise 6 = .ok (.iaload, 1) := dk_46 (dk_at dksX5_readPromise_0 6 rfl rfl)
theorem dX5_readPromise_7 : decode cX5_readPromise 7 = .ok (.istore_n 1, 1) := dk_60 (dk_at dksX5_readPromise_0 7 rfl rfl)
theorem dX5_readPromise_8 : decode cX5_readPromise 8 = .ok (.iload_n 1, 1) := dk_27 (dk_at dksX5_readPromise_0 8 rfl rfl)
theorem dX5_readPromise_9 : decode cX5_readPromise 9 = .ok (.bipush 8, 2) := dk_16 8 (dk_at dksX5_readPromise_0 9 rfl rfl)
theorem dX5_readPromise_11 : decode cX5_readPromise 11 = .ok (.if_icmp .ne 9, 3) := dk_160 0 9 (dk_at dksX5_readPromise_0 11 rfl rfl)
theorem dX5_readPromise_14 : decode cX5_readPromise 14 = .ok (.aload_n 0, 1) := dk_42 (dk_at dksX5_readPromise_0 14 rfl rfl)
theorem dX5_readPromise_15 : decode cX5_readPromise 15 = .ok (.iconst 4, 1) := dk_7 (dk_at dksX5_readPromise_0 15 rfl rfl)
theorem dX5_readPromise_16 : decode cX5_readPromise 16 = .ok (.invokevirtual 181, 3) := dk_182 0 181 (dk_at dksX5_readPromise_0 16 rfl rfl)
theorem dX5_readPromise_19 : decode cX5_readPromise 19 = .ok (.ireturn, 1) := dk_172 (dk_at dksX5_readPromise_0 19 rfl rfl)
theorem dX5_readPromise_20 : decode cX5_readPromise 20 = .ok (.aload_n 0, 1) := dk_42 (dk_at dksX5_readPromise_0 20 rfl rfl)
theorem dX5_readPromise_21 : decode cX5_readPromise 21 = .ok (.invokevirtual 184, 3) := dk_182 0 184 (dk_at dksX5_readPromise_0 21 rfl rfl)
theorem dX5_readPromise_24 : decode cX5_readPromise 24 = .ok (.aload_n 0, 1) := dk_42 (dk_at dksX5_readPromise_1 0 rfl rfl)
theorem dX5_readPromise_25 : decode cX5_readPromise 25 = .ok (.bipush 44, 2) := dk_16 44 (dk_at dksX5_readPromise_1 1 rfl rfl)
theorem dX5_readPromise_27 : decode cX5_readPromise 27 = .ok (.iload_n 1, 1) := dk_27 (dk_at dksX5_readPromise_1 3 rfl rfl)
theorem dX5_readPromise_28 : decode cX5_readPromise 28 = .ok (.iadd, 1) := dk_96 (dk_at dksX5_readPromise_1 4 rfl rfl)
theorem dX5_readPromise_29 : decode cX5_readPromise 29 = .ok (.invokevirtual 217, 3) := dk_182 0 217 (dk_at dksX5_readPromise_1 5 rfl rfl)
theorem dX5_readPromise_32 : decode cX5_readPromise 32 = .ok (.ifCond .eq 18, 3) := dk_153 0 18 (dk_at dksX5_readPromise_1 8 rfl rfl)
theorem dX5_readPromise_35 : decode cX5_readPromise 35 = .ok (.aload_n 0, 1) := dk_42 (dk_at dksX5_readPromise_1 11 rfl rfl)
theorem dX5_readPromise_36 : decode cX5_readPromise 36 = .ok (.bipush 34, 2) := dk_16 34 (dk_at dksX5_readPromise_1 12 rfl rfl)
theorem dX5_readPromise_38 : decode cX5_readPromise 38 = .ok (.aload_n 0, 1) := dk_42 (dk_at dksX5_readPromise_1 14 rfl rfl)
theorem dX5_readPromise_39 : decode cX5_readPromise 39 = .ok (.getfield 37, 3) := dk_180 0 37 (dk_at dksX5_readPromise_1 15 rfl rfl)
theorem dX5_readPromise_42 : decode cX5_readPromise 42 = .ok (.iconst 4, 1) := dk_7 (dk_at dksX5_readPromise_1 18 rfl rfl)
theorem dX5_readPromise_43 : decode cX5_readPromise 43 = .ok (.iaload, 1) := dk_46 (dk_at dksX5_readPromise_1 19 rfl rfl)
theorem dX5_readPromise_44 : decode cX5_readPromise 44 = .ok (.invokevirtual 220, 3) := dk_182 0 220 (dk_at dksX5_readPromise_1 20 rfl rfl)
theorem dX5_readPromise_47 : decode cX5_readPromise 47 = .ok (.ifCond .ne 5, 3) := dk_154 0 5 (dk_at dksX5_readPromise_2 0 rfl rfl)
theorem dX5_readPromise_50 : decode cX5_readPromise 50 = .ok (.iconst 0, 1) := dk_3 (dk_at dksX5_readPromise_2 3 rfl rfl)
theorem dX5_readPromise_51 : decode cX5_readPromise 51 = .ok (.ireturn, 1) := dk_172 (dk_at dksX5_readPromise_2 4 rfl rfl)
theorem dX5_readPromise_52 : decode cX5_readPromise 52 = .ok (.aload_n 0, 1) := dk_42 (dk_at dksX5_readPromise_2 5 rfl rfl)
theorem dX5_readPromise_53 : decode cX5_readPromise 53 = .ok (.getfield 37, 3) := dk_180 0 37 (dk_at dksX5_readPromise_2 6 rfl rfl)
theorem dX5_readPromise_56 : decode cX5_readPromise 56 = .ok (.bipush 26, 2) := dk_16 26 (dk_at dksX5_readPromise_2 9 rfl rfl)
theorem dX5_readPromise_58 : decode cX5_readPromise 58 = .ok (.iload_n 1, 1) := dk_27 (dk_at dksX5_readPromise_2 11 rfl rfl)
theorem dX5_readPromise_59 : decode cX5_readPromise 59 = .ok (.iadd, 1) := dk_96 (dk_at dksX5_readPromise_2 12 rfl rfl)
theorem dX5_readPromise_60 : decode cX5_readPromise 60 = .ok (.aload_n 0, 1) := dk_42 (dk_at dksX5_readPromise_2 13 rfl rfl)
theorem dX5_readPromise_61 : decode cX5_readPromise 61 = .ok (.getfield 191, 3) := dk_180 0 191 (dk_at dksX5_readPromise_2 14 rfl rfl)
theorem dX5_readPromise_64 : decode cX5_readPromise 64 = .ok (.iastore, 1) := dk_79 (dk_at dksX5_readPromise_2 17 rfl rfl)
theorem dX5_readPromise_65 : decode cX5_readPromise 65 = .ok (.aload_n 0, 1) := dk_42 (dk_at dksX5_readPromise_2 18 rfl rfl)
theorem dX5_readPromise_66 : decode cX5_readPromise 66 = .ok (.bipush 38, 2) := dk_16 38 (dk_at dksX5_readPromise_2 19 rfl rfl)
theorem dX5_readPromise_68 : decode cX5_readPromise 68 = .ok (.aload_n 0, 1) := dk_42 (dk_at dksX5_readPromise_2 21 rfl rfl)
theorem dX5_readPromise_69 : decode cX5_readPromise 69 = .ok (.getfield 37, 3) := dk_180 0 37 (dk_at dksX5_readPromise_3 0 rfl rfl)
theorem dX5_readPromise_72 : decode cX5_readPromise 72 = .ok (.iconst 5, 1) := dk_8 (dk_at dksX5_readPromise_3 3 rfl rfl)
theorem dX5_readPromise_73 : decode cX5_readPromise 73 = .ok (.iaload, 1) := dk_46 (dk_at dksX5_readPromise_3 4 rfl rfl)
theorem dX5_readPromise_74 : decode cX5_readPromise 74 = .ok (.invokevirtual 220, 3) := dk_182 0 220 (dk_at dksX5_readPromise_3 5 rfl rfl)
theorem dX5_readPromise_77 : decode cX5_readPromise 77 = .ok (.ifCond .ne 5, 3) := dk_154 0 5 (dk_at dksX5_readPromise_3 8 rfl rfl)
theorem dX5_readPromise_80 : decode cX5_readPromise 80 = .ok (.iconst 0, 1) := dk_3 (dk_at dksX5_readPromise_3 11 rfl rfl)
theorem dX5_readPromise_81 : decode cX5_readPromise 81 = .ok (.ireturn, 1) := dk_172 (dk_at dksX5_readPromise_3 12 rfl rfl)
theorem dX5_readPromise_82 : decode cX5_readPromise 82 = .ok (.aload_n 0, 1) := dk_42 (dk_at dksX5_readPromise_3 13 rfl rfl)
theorem dX5_readPromise_83 : decode cX5_readPromise 83 = .ok (.getfield 37, 3) := dk_180 0 37 (dk_at dksX5_readPromise_3 14 rfl rfl)
theorem dX5_readPromise_86 : decode cX5_readPromise 86 = .ok (.bipush 34, 2) := dk_16 34 (dk_at dksX5_readPromise_3 17 rfl rfl)
theorem dX5_readPromise_88 : decode cX5_readPromise 88 = .ok (.iload_n 1, 1) := dk_27 (dk_at dksX5_readPromise_3 19 rfl rfl)
theorem dX5_readPromise_89 : decode cX5_readPromise 89 = .ok (.iadd, 1) := dk_96 (dk_at dksX5_readPromise_3 20 rfl rfl)
theorem dX5_readPromise_90 : decode cX5_readPromise 90 = .ok (.aload_n 0, 1) := dk_42 (dk_at dksX5_readPromise_3 21 rfl rfl)
theorem dX5_readPromise_91 : decode cX5_readPromise 91 = .ok (.getfield 191, 3) := dk_180 0 191 (dk_at dksX5_readPromise_4 0 rfl rfl)
theorem dX5_readPromise_94 : decode cX5_readPromise 94 = .ok (.iastore, 1) := dk_79 (dk_at dksX5_readPromise_4 3 rfl rfl)
theorem dX5_readPromise_95 : decode cX5_readPromise 95 = .ok (.aload_n 0, 1) := dk_42 (dk_at dksX5_readPromise_4 4 rfl rfl)
theorem dX5_readPromise_96 : decode cX5_readPromise 96 = .ok (.bipush 26, 2) := dk_16 26 (dk_at dksX5_readPromise_4 5 rfl rfl)
theorem dX5_readPromise_98 : decode cX5_readPromise 98 = .ok (.aload_n 0, 1) := dk_42 (dk_at dksX5_readPromise_4 7 rfl rfl)
theorem dX5_readPromise_99 : decode cX5_readPromise 99 = .ok (.getfield 37, 3) := dk_180 0 37 (dk_at dksX5_readPromise_4 8 rfl rfl)
theorem dX5_readPromise_102 : decode cX5_readPromise 102 = .ok (.iconst 1, 1) := dk_4 (dk_at dksX5_readPromise_4 11 rfl rfl)
theorem dX5_readPromise_103 : decode cX5_readPromise 103 = .ok (.iaload, 1) := dk_46 (dk_at dksX5_readPromise_4 12 rfl rfl)
theorem dX5_readPromise_104 : decode cX5_readPromise 104 = .ok (.invokevirtual 220, 3) := dk_182 0 220 (dk_at dksX5_readPromise_4 13 rfl rfl)
theorem dX5_readPromise_107 : decode cX5_readPromise 107 = .ok (.ifCond .ne 5, 3) := dk_154 0 5 (dk_at dksX5_readPromise_4 16 rfl rfl)
theorem dX5_readPromise_110 : decode cX5_readPromise 110 = .ok (.iconst 0, 1) := dk_3 (dk_at dksX5_readPromise_4 19 rfl rfl)
theorem dX5_readPromise_111 : decode cX5_readPromise 111 = .ok (.ireturn, 1) := dk_172 (dk_at dksX5_readPromise_4 20 rfl rfl)
theorem dX5_readPromise_112 : decode cX5_readPromise 112 = .ok (.aload_n 0, 1) := dk_42 (dk_at dksX5_readPromise_4 21 rfl rfl)
theorem dX5_readPromise_113 : decode cX5_readPromise 113 = .ok (.getfield 37, 3) := dk_180 0 37 (dk_at dksX5_readPromise_5 0 rfl rfl)
theorem dX5_readPromise_116 : decode cX5_readPromise 116 = .ok (.bipush 42, 2) := dk_16 42 (dk_at dksX5_readPromise_5 3 rfl rfl)
theorem dX5_readPromise_118 : decode cX5_readPromise 118 = .ok (.iload_n 1, 1) := dk_27 (dk_at dksX5_readPromise_5 5 rfl rfl)
theorem dX5_readPromise_119 : decode cX5_readPromise 119 = .ok (.iadd, 1) := dk_96 (dk_at dksX5_readPromise_5 6 rfl rfl)
theorem dX5_readPromise_120 : decode cX5_readPromise 120 = .ok (.aload_n 0, 1) := dk_42 (dk_at dksX5_readPromise_5 7 rfl rfl)
theorem dX5_readPromise_121 : decode cX5_readPromise 121 = .ok (.getfield 191, 3) := dk_180 0 191 (dk_at dksX5_readPromise_5 8 rfl rfl)
theorem dX5_readPromise_124 : decode cX5_readPromise 124 = .ok (.iastore, 1) := dk_79 (dk_at dksX5_readPromise_5 11 rfl rfl)
theorem dX5_readPromise_125 : decode cX5_readPromise 125 = .ok (.aload_n 0, 1) := dk_42 (dk_at dksX5_readPromise_5 12 rfl rfl)
theorem dX5_readPromise_126 : decode cX5_readPromise 126 = .ok (.iconst 0, 1) := dk_3 (dk_at dksX5_readPromise_5 13 rfl rfl)
theorem dX5_readPromise_127 : decode cX5_readPromise 127 = .ok (.bipush 23, 2) := dk_16 23 (dk_at dksX5_readPromise_5 14 rfl rfl)
theorem dX5_readPromise_129 : decode cX5_readPromise 129 = .ok (.invokevirtual 214, 3) := dk_182 0 214 (dk_at dksX5_readPromise_5 16 rfl rfl)
theorem dX5_readPromise_132 : decode cX5_readPromise 132 = .ok (.ifCond .ne 5, 3) := dk_154 0 5 (dk_at dksX5_readPromise_5 19 rfl rfl)
theorem dX5_readPromise_135 : decode cX5_readPromise 135 = .ok (.iconst 0, 1) := dk_3 (dk_at dksX5_readPromise_5 22 rfl rfl)
theorem dX5_readPromise_136 : decode cX5_readPromise 136 = .ok (.ireturn, 1) := dk_172 (dk_at dksX5_readPromise_5 23 rfl rfl)
theorem dX5_readPromise_137 : decode cX5_readPromise 137 = .ok (.aload_n 0, 1) := dk_42 (dk_at dksX5_readPromise_6 0 rfl rfl)
theorem dX5_readPromise_138 : decode cX5_readPromise 138 = .ok (.getfield 37, 3) := dk_180 0 37 (dk_at dksX5_readPromise_6 1 rfl rfl)
theorem dX5_readPromise_141 : decode cX5_readPromise 141 = .ok (.bipush 50, 2) := dk_16 50 (dk_at dksX5_readPromise_6 4 rfl rfl)
theorem dX5_readPromise_143 : decode cX5_readPromise 143 = .ok (.iload_n 1, 1) := dk_27 (dk_at dksX5_readPromise_6 6 rfl rfl)
theorem dX5_readPromise_144 : decode cX5_readPromise 144 = .ok (.iadd, 1) := dk_96 (dk_at dksX5_readPromise_6 7 rfl rfl)
theorem dX5_readPromise_145 : decode cX5_readPromise 145 = .ok (.aload_n 0, 1) := dk_42 (dk_at dksX5_readPromise_6 8 rfl rfl)
theorem dX5_readPromise_146 : decode cX5_readPromise 146 = .ok (.getfield 191, 3) := dk_180 0 191 (dk_at dksX5_readPromise_6 9 rfl rfl)
theorem dX5_readPromise_149 : decode cX5_readPromise 149 = .ok (.iastore, 1) := dk_79 (dk_at dksX5_readPromise_6 12 rfl rfl)
theorem dX5_readPromise_150 : decode cX5_readPromise 150 = .ok (.aload_n 0, 1) := dk_42 (dk_at dksX5_readPromise_6 13 rfl rfl)
theorem dX5_readPromise_151 : decode cX5_readPromise 151 = .ok (.aload_n 0, 1) := dk_42 (dk_at dksX5_readPromise_6 14 rfl rfl)
theorem dX5_readPromise_152 : decode cX5_readPromise 152 = .ok (.getfield 37, 3) := dk_180 0 37 (dk_at dksX5_readPromise_6 15 rfl rfl)
theorem dX5_readPromise_155 : decode cX5_readPromise 155 = .ok (.bipush 50, 2) := dk_16 50 (dk_at dksX5_readPromise_6 18 rfl rfl)
theorem dX5_readPromise_157 : decode cX5_readPromise 157 = .ok (.iload_n 1, 1) := dk_27 (dk_at dksX5_readPromise_6 20 rfl rfl)
theorem dX5_readPromise_158 : decode cX5_readPromise 158 = .ok (.iadd, 1) := dk_96 (dk_at dksX5_readPromise_6 21 rfl rfl)
theorem dX5_readPromise_159 : decode cX5_readPromise 159 = .ok (.iaload, 1) := dk_46 (dk_at dksX5_readPromise_6 22 rfl rfl)
theorem dX5_readPromise_160 : decode cX5_readPromise 160 = .ok (.bipush 23, 2) := dk_16 23 (dk_at dksX5_readPromise_7 0 rfl rfl)
theorem dX5_readPromise_162 : decode cX5_readPromise 162 = .ok (.invokevirtual 214, 3) := dk_182 0 214 (dk_at dksX5_readPromise_7 2 rfl rfl)
theorem dX5_readPromise_165 : decode cX5_readPromise 165 = .ok (.ifCond .ne 5, 3) := dk_154 0 5 (dk_at dksX5_readPromise_7 5 rfl rfl)
theorem dX5_readPromise_168 : decode cX5_readPromise 168 = .ok (.iconst 0, 1) := dk_3 (dk_at dksX5_readPromise_7 8 rfl rfl)
theorem dX5_readPromise_169 : decode cX5_readPromise 169 = .ok (.ireturn, 1) := dk_172 (dk_at dksX5_readPromise_7 9 rfl rfl)
theorem dX5_readPromise_170 : decode cX5_readPromise 170 = .ok (.aload_n 0, 1) := dk_42 (dk_at dksX5_readPromise_7 10 rfl rfl)
theorem dX5_readPromise_171 : decode cX5_readPromise 171 = .ok (.getfield 37, 3) := dk_180 0 37 (dk_at dksX5_readPromise_7 11 rfl rfl)
theorem dX5_readPromise_174 : decode cX5_readPromise 174 = .ok (.bipush 58, 2) := dk_16 58 (dk_at dksX5_readPromise_7 14 rfl rfl)
theorem dX5_readPromise_176 : decode cX5_readPromise 176 = .ok (.iload_n 1, 1) := dk_27 (dk_at dksX5_readPromise_7 16 rfl rfl)
theorem dX5_readPromise_177 : decode cX5_readPromise 177 = .ok (.iadd, 1) := dk_96 (dk_at dksX5_readPromise_7 17 rfl rfl)
theorem dX5_readPromise_178 : decode cX5_readPromise 178 = .ok (.aload_n 0, 1) := dk_42 (dk_at dksX5_readPromise_7 18 rfl rfl)
theorem dX5_readPromise_179 : decode cX5_readPromise 179 = .ok (.getfield 191, 3) := dk_180 0 191 (dk_at dksX5_readPromise_7 19 rfl rfl)
theorem dX5_readPromise_182 : decode cX5_readPromise 182 = .ok (.iastore, 1) := dk_79 (dk_at dksX5_readPromise_7 22 rfl rfl)
theorem dX5_readPromise_183 : decode cX5_readPromise 183 = .ok (.aload_n 0, 1) := dk_42 (dk_at dksX5_readPromise_7 23 rfl rfl)
theorem dX5_readPromise_184 : decode cX5_readPromise 184 = .ok (.iconst 1, 1) := dk_4 (dk_at dksX5_readPromise_8 0 rfl rfl)
theorem dX5_readPromise_185 : decode cX5_readPromise 185 = .ok (.iconst 3, 1) := dk_6 (dk_at dksX5_readPromise_8 1 rfl rfl)
theorem dX5_readPromise_186 : decode cX5_readPromise 186 = .ok (.invokevirtual 214, 3) := dk_182 0 214 (dk_at dksX5_readPromise_8 2 rfl rfl)
theorem dX5_readPromise_189 : decode cX5_readPromise 189 = .ok (.ifCond .ne 5, 3) := dk_154 0 5 (dk_at dksX5_readPromise_8 5 rfl rfl)
theorem dX5_readPromise_192 : decode cX5_readPromise 192 = .ok (.iconst 0, 1) := dk_3 (dk_at dksX5_readPromise_8 8 rfl rfl)
theorem dX5_readPromise_193 : decode cX5_readPromise 193 = .ok (.ireturn, 1) := dk_172 (dk_at dksX5_readPromise_8 9 rfl rfl)
theorem dX5_readPromise_194 : decode cX5_readPromise 194 = .ok (.aload_n 0, 1) := dk_42 (dk_at dksX5_readPromise_8 10 rfl rfl)
theorem dX5_readPromise_195 : decode cX5_readPromise 195 = .ok (.getfield 37, 3) := dk_180 0 37 (dk_at dksX5_readPromise_8 11 rfl rfl)
theorem dX5_readPromise_198 : decode cX5_readPromise 198 = .ok (.bipush 66, 2) := dk_16 66 (dk_at dksX5_readPromise_8 14 rfl rfl)
theorem dX5_readPromise_200 : decode cX5_readPromise 200 = .ok (.iload_n 1, 1) := dk_27 (dk_at dksX5_readPromise_8 16 rfl rfl)
theorem dX5_readPromise_201 : decode cX5_readPromise 201 = .ok (.iadd, 1) := dk_96 (dk_at dksX5_readPromise_8 17 rfl rfl)
theorem dX5_readPromise_202 : decode cX5_readPromise 202 = .ok (.aload_n 0, 1) := dk_42 (dk_at dksX5_readPromise_8 18 rfl rfl)
theorem dX5_readPromise_203 : decode cX5_readPromise 203 = .ok (.getfield 191, 3) := dk_180 0 191 (dk_at dksX5_readPromise_8 19 rfl rfl)
theorem dX5_readPromise_206 : decode cX5_readPromise 206 = .ok (.iastore, 1) := dk_79 (dk_at dksX5_readPromise_8 22 rfl rfl)
theorem dX5_readPromise_207 : decode cX5_readPromise 207 = .ok (.aload_n 0, 1) := dk_42 (dk_at dksX5_readPromise_8 23 rfl rfl)
theorem dX5_readPromise_208 : decode cX5_readPromise 208 = .ok (.getfield 37, 3) := dk_180 0 37 (dk_at dksX5_readPromise_9 0 rfl rfl)
theorem dX5_readPromise_211 : decode cX5_readPromise 211 = .ok (.bipush 74, 2) := dk_16 74 (dk_at dksX5_readPromise_9 3 rfl rfl)
theorem dX5_readPromise_213 : decode cX5_readPromise 213 = .ok (.iload_n 1, 1) := dk_27 (dk_at dksX5_readPromise_9 5 rfl rfl)
theorem dX5_readPromise_214 : decode cX5_readPromise 214 = .ok (.iadd, 1) := dk_96 (dk_at dksX5_readPromise_9 6 rfl rfl)
theorem dX5_readPromise_215 : decode cX5_readPromise 215 = .ok (.aload_n 0, 1) := dk_42 (dk_at dksX5_readPromise_9 7 rfl rfl)
theorem dX5_readPromise_216 : decode cX5_readPromise 216 = .ok (.ldc2_w 107, 3) := dk_20 0 107 (dk_at dksX5_readPromise_9 8 rfl rfl)
theorem dX5_readPromise_219 : decode cX5_readPromise 219 = .ok (.invokevirtual 206, 3) := dk_182 0 206 (dk_at dksX5_readPromise_9 11 rfl rfl)
theorem dX5_readPromise_222 : decode cX5_readPromise 222 = .ok (.ifCond .eq 7, 3) := dk_153 0 7 (dk_at dksX5_readPromise_9 14 rfl rfl)
theorem dX5_readPromise_225 : decode cX5_readPromise 225 = .ok (.iconst 1, 1) := dk_4 (dk_at dksX5_readPromise_9 17 rfl rfl)
theorem dX5_readPromise_226 : decode cX5_readPromise 226 = .ok (.goto 4, 3) := dk_167 0 4 (dk_at dksX5_readPromise_9 18 rfl rfl)
theorem dX5_readPromise_229 : decode cX5_readPromise 229 = .ok (.iconst 0, 1) := dk_3 (dk_at dksX5_readPromise_9 21 rfl rfl)
theorem dX5_readPromise_230 : decode cX5_readPromise 230 = .ok (.iastore, 1) := dk_79 (dk_at dksX5_readPromise_9 22 rfl rfl)
theorem dX5_readPromise_231 : decode cX5_readPromise 231 = .ok (.aload_n 0, 1) := dk_42 (dk_at dksX5_readPromise_9 23 rfl rfl)
theorem dX5_readPromise_232 : decode cX5_readPromise 232 = .ok (.ldc2_w 107, 3) := dk_20 0 107 (dk_at dksX5_readPromise_10 0 rfl rfl)
theorem dX5_readPromise_235 : decode cX5_readPromise 235 = .ok (.invokevirtual 206, 3) := dk_182 0 206 (dk_at dksX5_readPromise_10 3 rfl rfl)
theorem dX5_readPromise_238 : decode cX5_readPromise 238 = .ok (.ifCond .eq 7, 3) := dk_153 0 7 (dk_at dksX5_readPromise_10 6 rfl rfl)
theorem dX5_readPromise_241 : decode cX5_readPromise 241 = .ok (.aload_n 0, 1) := dk_42 (dk_at dksX5_readPromise_10 9 rfl rfl)
theorem dX5_readPromise_242 : decode cX5_readPromise 242 = .ok (.invokevirtual 184, 3) := dk_182 0 184 (dk_at dksX5_readPromise_10 10 rfl rfl)
theorem dX5_readPromise_245 : decode cX5_readPromise 245 = .ok (.aload_n 0, 1) := dk_42 (dk_at dksX5_readPromise_10 13 rfl rfl)
theorem dX5_readPromise_246 : decode cX5_readPromise 246 = .ok (.getfield 37, 3) := dk_180 0 37 (dk_at dksX5_readPromise_10 14 rfl rfl)
theorem dX5_readPromise_249 : decode cX5_readPromise 249 = .ok (.bipush 82, 2) := dk_16 82 (dk_at dksX5_readPromise_10 17 rfl rfl)
theorem dX5_readPromise_251 : decode cX5_readPromise 251 = .ok (.iload_n 1, 1) := dk_27 (dk_at dksX5_readPromise_10 19 rfl rfl)
theorem dX5_readPromise_252 : decode cX5_readPromise 252 = .ok (.iadd, 1) := dk_96 (dk_at dksX5_readPromise_10 20 rfl rfl)
theorem dX5_readPromise_253 : decode cX5_readPromise 253 = .ok (.iconst 0, 1) := dk_3 (dk_at dksX5_readPromise_10 21 rfl rfl)
theorem dX5_readPromise_254 : decode cX5_readPromise 254 = .ok (.iastore, 1) := dk_79 (dk_at dksX5_readPromise_10 22 rfl rfl)
theorem dX5_readPromise_255 : decode cX5_readPromise 255 = .ok (.aload_n 0, 1) := dk_42 (dk_at dksX5_readPromise_10 23 rfl rfl)
theorem dX5_readPromise_256 : decode cX5_readPromise 256 = .ok (.ldc2_w 109, 3) := dk_20 0 109 (dk_at dksX5_readPromise_11 0 rfl rfl)
theorem dX5_readPromise_259 : decode cX5_readPromise 259 = .ok (.invokevirtual 206, 3) := dk_182 0 206 (dk_at dksX5_readPromise_11 3 rfl rfl)
theorem dX5_readPromise_262 : decode cX5_readPromise 262 = .ok (.ifCond .eq 39, 3) := dk_153 0 39 (dk_at dksX5_readPromise_11 6 rfl rfl)
theorem dX5_readPromise_265 : decode cX5_readPromise 265 = .ok (.aload_n 0, 1) := dk_42 (dk_at dksX5_readPromise_11 9 rfl rfl)
theorem dX5_readPromise_266 : decode cX5_readPromise 266 = .ok (.invokevirtual 184, 3) := dk_182 0 184 (dk_at dksX5_readPromise_11 10 rfl rfl)
theorem dX5_readPromise_269 : decode cX5_readPromise 269 = .ok (.aload_n 0, 1) := dk_42 (dk_at dksX5_readPromise_11 13 rfl rfl)
theorem dX5_readPromise_270 : decode cX5_readPromise 270 = .ok (.bipush 38, 2) := dk_16 38 (dk_at dksX5_readPromise_11 14 rfl rfl)
theorem dX5_readPromise_272 : decode cX5_readPromise 272 = .ok (.aload_n 0, 1) := dk_42 (dk_at dksX5_readPromise_11 16 rfl rfl)
theorem dX5_readPromise_273 : decode cX5_readPromise 273 = .ok (.getfield 37, 3) := dk_180 0 37 (dk_at dksX5_readPromise_11 17 rfl rfl)
theorem dX5_readPromise_276 : decode cX5_readPromise 276 = .ok (.iconst 5, 1) := dk_8 (dk_at dksX5_readPromise_11 20 rfl rfl)
theorem dX5_readPromise_277 : decode cX5_readPromise 277 = .ok (.iaload, 1) := dk_46 (dk_at dksX5_readPromise_11 21 rfl rfl)
theorem dX5_readPromise_278 : decode cX5_readPromise 278 = .ok (.invokevirtual 220, 3) := dk_182 0 220 (dk_at dksX5_readPromise_12 0 rfl rfl)
theorem dX5_readPromise_281 : decode cX5_readPromise 281 = .ok (.ifCond .ne 5, 3) := dk_154 0 5 (dk_at dksX5_readPromise_12 3 rfl rfl)
theorem dX5_readPromise_284 : decode cX5_readPromise 284 = .ok (.iconst 0, 1) := dk_3 (dk_at dksX5_readPromise_12 6 rfl rfl)
theorem dX5_readPromise_285 : decode cX5_readPromise 285 = .ok (.ireturn, 1) := dk_172 (dk_at dksX5_readPromise_12 7 rfl rfl)
theorem dX5_readPromise_286 : decode cX5_readPromise 286 = .ok (.aload_n 0, 1) := dk_42 (dk_at dksX5_readPromise_12 8 rfl rfl)
theorem dX5_readPromise_287 : decode cX5_readPromise 287 = .ok (.getfield 37, 3) := dk_180 0 37 (dk_at dksX5_readPromise_12 9 rfl rfl)
theorem dX5_readPromise_290 : decode cX5_readPromise 290 = .ok (.bipush 82, 2) := dk_16 82 (dk_at dksX5_readPromise_12 12 rfl rfl)
theorem dX5_readPromise_292 : decode cX5_readPromise 292 = .ok (.iload_n 1, 1) := dk_27 (dk_at dksX5_readPromise_12 14 rfl rfl)
theorem dX5_readPromise_293 : decode cX5_readPromise 293 = .ok (.iadd, 1) := dk_96 (dk_at dksX5_readPromise_12 15 rfl rfl)
theorem dX5_readPromise_294 : decode cX5_readPromise 294 = .ok (.aload_n 0, 1) := dk_42 (dk_at dksX5_readPromise_12 16 rfl rfl)
theorem dX5_readPromise_295 : decode cX5_readPromise 295 = .ok (.getfield 191, 3) := dk_180 0 191 (dk_at dksX5_readPromise_12 17 rfl rfl)
theorem dX5_readPromise_298 : decode cX5_readPromise 298 = .ok (.iconst 1, 1) := dk_4 (dk_at dksX5_readPromise_12 20 rfl rfl)
theorem dX5_readPromise_299 : decode cX5_readPromise 299 = .ok (.iadd, 1) := dk_96 (dk_at dksX5_readPromise_12 21 rfl rfl)
theorem dX5_readPromise_300 : decode cX5_readPromise 300 = .ok (.iastore, 1) := dk_79 (dk_at dksX5_readPromise_12 22 rfl rfl)
theorem dX5_readPromise_301 : decode cX5_readPromise 301 = .ok (.aload_n 0, 1) := dk_42 (dk_at dksX5_readPromise_12 23 rfl rfl)
theorem dX5_readPromise_302 : decode cX5_readPromise 302 = .ok (.getfield 37, 3) := dk_180 0 37 (dk_at dksX5_readPromise_13 0 rfl rfl)
theorem dX5_readPromise_305 : decode cX5_readPromise 305 = .ok (.bipush 6, 2) := dk_16 6 (dk_at dksX5_readPromise_13 3 rfl rfl)
theorem dX5_readPromise_307 : decode cX5_readPromise 307 = .ok (.dup2, 1) := dk_92 (dk_at dksX5_readPromise_13 5 rfl rfl)
theorem dX5_readPromise_308 : decode cX5_readPromise 308 = .ok (.iaload, 1) := dk_46 (dk_at dksX5_readPromise_13 6 rfl rfl)
theorem dX5_readPromise_309 : decode cX5_readPromise 309 = .ok (.iconst 1, 1) := dk_4 (dk_at dksX5_readPromise_13 7 rfl rfl)
theorem dX5_readPromise_310 : decode cX5_readPromise 310 = .ok (.iadd, 1) := dk_96 (dk_at dksX5_readPromise_13 8 rfl rfl)
theorem dX5_readPromise_311 : decode cX5_readPromise 311 = .ok (.iastore, 1) := dk_79 (dk_at dksX5_readPromise_13 9 rfl rfl)
theorem dX5_readPromise_312 : decode cX5_readPromise 312 = .ok (.iconst 1, 1) := dk_4 (dk_at dksX5_readPromise_13 10 rfl rfl)
theorem dX5_readPromise_313 : decode cX5_readPromise 313 = .ok (.ireturn, 1) := dk_172 (dk_at dksX5_readPromise_13 11 rfl rfl)
abbrev cX5_sign : ByteArray := prog_26_method_19_code
def yX5_sign : MethodName := ⟨RX5, "sign", "(I)Z"⟩
def dkwX5_sign_0 : List UInt8 := [42, 27, 182, 0, 178, 154, 0, 9, 42, 4, 182, 0, 181, 172, 42, 182, 0, 184, 4, 172]
abbrev dktX5_sign_0 : List UInt8 := dkwX5_sign_0 ++ []
theorem dksX5_sign_0 : cX5_sign.data.toList.drop 0 = dktX5_sign_0 := by decide +kernel
theorem dX5_sign_0 : decode cX5_sign 0 = .ok (.aload_n 0, 1) := dk_42 (dk_at dksX5_sign_0 0 rfl rfl)
theorem dX5_sign_1 : decode cX5_sign 1 = .ok (.iload_n 1, 1) := dk_27 (dk_at dksX5_sign_0 1 rfl rfl)
theorem dX5_sign_2 : decode cX5_sign 2 = .ok (.invokevirtual 178, 3) := dk_182 0 178 (dk_at dksX5_sign_0 2 rfl rfl)
theorem dX5_sign_5 : decode cX5_sign 5 = .ok (.ifCond .ne 9, 3) := dk_154 0 9 (dk_at dksX5_sign_0 5 rfl rfl)
theorem dX5_sign_8 : decode cX5_sign 8 = .ok (.aload_n 0, 1) := dk_42 (dk_at dksX5_sign_0 8 rfl rfl)
theorem dX5_sign_9 : decode cX5_sign 9 = .ok (.iconst 1, 1) := dk_4 (dk_at dksX5_sign_0 9 rfl rfl)
theorem dX5_sign_10 : decode cX5_sign 10 = .ok (.invokevirtual 181, 3) := dk_182 0 181 (dk_at dksX5_sign_0 10 rfl rfl)
theorem dX5_sign_13 : decode cX5_sign 13 = .ok (.ireturn, 1) := dk_172 (dk_at dksX5_sign_0 13 rfl rfl)
theorem dX5_sign_14 : decode cX5_sign 14 = .ok (.aload_n 0, 1) := dk_42 (dk_at dksX5_sign_0 14 rfl rfl)
theorem dX5_sign_15 : decode cX5_sign 15 = .ok (.invokevirtual 184, 3) := dk_182 0 184 (dk_at dksX5_sign_0 15 rfl rfl)
theorem dX5_sign_18 : decode cX5_sign 18 = .ok (.iconst 1, 1) := dk_4 (dk_at dksX5_sign_0 18 rfl rfl)
theorem dX5_sign_19 : decode cX5_sign 19 = .ok (.ireturn, 1) := dk_172 (dk_at dksX5_sign_0 19 rfl rfl)
abbrev cX5_isSign : ByteArray := prog_26_method_18_code
def yX5_isSign : MethodName := ⟨RX5, "isSign", "(I)Z"⟩
def dkwX5_isSign_0 : List UInt8 := [42, 180, 0, 155, 6, 160, 0, 15, 42, 180, 0, 165, 27, 160, 0, 7, 4, 167, 0, 4, 3, 172]
abbrev dktX5_isSign_0 : List UInt8 := dkwX5_isSign_0 ++ []
theorem dksX5_isSign_0 : cX5_isSign.data.toList.drop 0 = dktX5_isSign_0 := by decide +kernel
theorem dX5_isSign_0 : decode cX5_isSign 0 = .ok (.aload_n 0, 1) := dk_42 (dk_at dksX5_isSign_0 0 rfl rfl)
theorem dX5_isSign_1 : decode cX5_isSign 1 = .ok (.getfield 155, 3) := dk_180 0 155 (dk_at dksX5_isSign_0 1 rfl rfl)
theorem dX5_isSign_4 : decode cX5_isSign 4 = .ok (.iconst 3, 1) := dk_6 (dk_at dksX5_isSign_0 4 rfl rfl)
theorem dX5_isSign_5 : decode cX5_isSign 5 = .ok (.if_icmp .ne 15, 3) := dk_160 0 15 (dk_at dksX5_isSign_0 5 rfl rfl)
theorem dX5_isSign_8 : decode cX5_isSign 8 = .ok (.aload_n 0, 1) := dk_42 (dk_at dksX5_isSign_0 8 rfl rfl)
theorem dX5_isSign_9 : decode cX5_isSign 9 = .ok (.getfield 165, 3) := dk_180 0 165 (dk_at dksX5_isSign_0 9 rfl rfl)
theorem dX5_isSign_12 : decode cX5_isSign 12 = .ok (.iload_n 1, 1) := dk_27 (dk_at dksX5_isSign_0 12 rfl rfl)
theorem dX5_isSign_13 : decode cX5_isSign 13 = .ok (.if_icmp .ne 7, 3) := dk_160 0 7 (dk_at dksX5_isSign_0 13 rfl rfl)
theorem dX5_isSign_16 : decode cX5_isSign 16 = .ok (.iconst 1, 1) := dk_4 (dk_at dksX5_isSign_0 16 rfl rfl)
theorem dX5_isSign_17 : decode cX5_isSign 17 = .ok (.goto 4, 3) := dk_167 0 4 (dk_at dksX5_isSign_0 17 rfl rfl)
theorem dX5_isSign_20 : decode cX5_isSign 20 = .ok (.iconst 0, 1) := dk_3 (dk_at dksX5_isSign_0 20 rfl rfl)
theorem dX5_isSign_21 : decode cX5_isSign 21 = .ok (.ireturn, 1) := dk_172 (dk_at dksX5_isSign_0 21 rfl rfl)
abbrev cX5_fault : ByteArray := prog_26_method_29_code
def yX5_fault : MethodName := ⟨RX5, "fault", "()I"⟩
def dkwX5_fault_0 : List UInt8 := [42, 3, 181, 0, 1, 42, 180, 0, 172, 172]
abbrev dktX5_fault_0 : List UInt8 := dkwX5_fault_0 ++ []
theorem dksX5_fault_0 : cX5_fault.data.toList.drop 0 = dktX5_fault_0 := by decide +kernel
theorem dX5_fault_0 : decode cX5_fault 0 = .ok (.aload_n 0, 1) := dk_42 (dk_at dksX5_fault_0 0 rfl rfl)
theorem dX5_fault_1 : decode cX5_fault 1 = .ok (.iconst 0, 1) := dk_3 (dk_at dksX5_fault_0 1 rfl rfl)
theorem dX5_fault_2 : decode cX5_fault 2 = .ok (.putfield 1, 3) := dk_181 0 1 (dk_at dksX5_fault_0 2 rfl rfl)
theorem dX5_fault_5 : decode cX5_fault 5 = .ok (.aload_n 0, 1) := dk_42 (dk_at dksX5_fault_0 5 rfl rfl)
theorem dX5_fault_6 : decode cX5_fault 6 = .ok (.getfield 172, 3) := dk_180 0 172 (dk_at dksX5_fault_0 6 rfl rfl)
theorem dX5_fault_9 : decode cX5_fault 9 = .ok (.ireturn, 1) := dk_172 (dk_at dksX5_fault_0 9 rfl rfl)
abbrev cX5_promise : ByteArray := prog_26_method_35_code
def yX5_promise : MethodName := ⟨RX5, "promise", "(II)I"⟩
def dkwX5_promise_7 : List UInt8 := [180, 0, 33, 17, 0, 132, 27, 96, 46, 172]
abbrev dktX5_promise_7 : List UInt8 := dkwX5_promise_7 ++ []
def dkwX5_promise_6 : List UInt8 := [180, 0, 33, 16, 82, 27, 96, 46, 4, 100, 172, 42, 180, 0, 33, 16, 124, 27, 96, 46, 4, 100, 172, 42]
abbrev dktX5_promise_6 : List UInt8 := dkwX5_promise_6 ++ dktX5_promise_7
def dkwX5_promise_5 : List UInt8 := [46, 172, 42, 180, 0, 33, 16, 66, 27, 96, 46, 172, 42, 180, 0, 33, 16, 74, 27, 96, 46, 172, 42]
abbrev dktX5_promise_5 : List UInt8 := dkwX5_promise_5 ++ dktX5_promise_6
def dkwX5_promise_4 : List UInt8 := [16, 42, 27, 96, 46, 172, 42, 180, 0, 33, 16, 50, 27, 96, 46, 172, 42, 180, 0, 33, 16, 58, 27, 96]
abbrev dktX5_promise_4 : List UInt8 := dkwX5_promise_4 ++ dktX5_promise_5
def dkwX5_promise_3 : List UInt8 := [42, 180, 0, 33, 16, 26, 27, 96, 46, 172, 42, 180, 0, 33, 16, 34, 27, 96, 46, 172, 42, 180, 0, 33]
abbrev dktX5_promise_3 : List UInt8 := dkwX5_promise_3 ++ dktX5_promise_4
def dkwX5_promise_2 : List UInt8 := [170, 0, 0, 0, 0, 0, 145, 0, 0, 0, 0, 0, 0, 0, 8, 0, 0, 0, 51, 0, 0, 0, 61, 0, 0, 0, 71, 0, 0, 0, 81, 0, 0, 0, 91, 0, 0, 0, 101, 0, 0, 0, 111, 0, 0, 0, 121, 0, 0, 0, 133]
abbrev dktX5_promise_2 : List UInt8 := dkwX5_promise_2 ++ dktX5_promise_3
def dkwX5_promise_1 : List UInt8 := [182, 0, 247, 153, 0, 5, 3, 172, 28]
abbrev dktX5_promise_1 : List UInt8 := dkwX5_promise_1 ++ dktX5_promise_2
def dkwX5_promise_0 : List UInt8 := [42, 42, 27, 182, 0, 244, 153, 0, 13, 28, 3, 16, 9, 184, 0, 187, 154, 0, 7, 4, 167, 0, 4, 3]
abbrev dktX5_promise_0 : List UInt8 := dkwX5_promise_0 ++ dktX5_promise_1
theorem dksX5_promise_0 : cX5_promise.data.toList.drop 0 = dktX5_promise_0 := by decide +kernel
theorem dksX5_promise_1 : cX5_promise.data.toList.drop 24 = dktX5_promise_1 := dk_seg dksX5_promise_0 24 rfl rfl
theorem dksX5_promise_2 : cX5_promise.data.toList.drop 33 = dktX5_promise_2 := dk_seg dksX5_promise_1 9 rfl rfl
theorem dksX5_promise_3 : cX5_promise.data.toList.drop 84 = dktX5_promise_3 := dk_seg dksX5_promise_2 51 rfl rfl
theorem dksX5_promise_4 : cX5_promise.data.toList.drop 108 = dktX5_promise_4 := dk_seg dksX5_promise_3 24 rfl rfl
theorem dksX5_promise_5 : cX5_promise.data.toList.drop 132 = dktX5_promise_5 := dk_seg dksX5_promise_4 24 rfl rfl
theorem dksX5_promise_6 : cX5_promise.data.toList.drop 155 = dktX5_promise_6 := dk_seg dksX5_promise_5 23 rfl rfl
theorem dksX5_promise_7 : cX5_promise.data.toList.drop 179 = dktX5_promise_7 := dk_seg dksX5_promise_6 24 rfl rfl
theorem dX5_promise_0 : decode cX5_promise 0 = .ok (.aload_n 0, 1) := dk_42 (dk_at dksX5_promise_0 0 rfl rfl)
theorem dX5_promise_1 : decode cX5_promise 1 = .ok (.aload_n 0, 1) := dk_42 (dk_at dksX5_promise_0 1 rfl rfl)
theorem dX5_promise_2 : decode cX5_promise 2 = .ok (.iload_n 1, 1) := dk_27 (dk_at dksX5_promise_0 2 rfl rfl)
theorem dX5_promise_3 : decode cX5_promise 3 = .ok (.invokevirtual 244, 3) := dk_182 0 244 (dk_at dksX5_promise_0 3 rfl rfl)
theorem dX5_promise_6 : decode cX5_promise 6 = .ok (.ifCond .eq 13, 3) := dk_153 0 13 (dk_at dksX5_promise_0 6 rfl rfl)
theorem dX5_promise_9 : decode cX5_promise 9 = .ok (.iload_n 2, 1) := dk_28 (dk_at dksX5_promise_0 9 rfl rfl)
theorem dX5_promise_10 : decode cX5_promise 10 = .ok (.iconst 0, 1) := dk_3 (dk_at dksX5_promise_0 10 rfl rfl)
theorem dX5_promise_11 : decode cX5_promise 11 = .ok (.bipush 9, 2) := dk_16 9 (dk_at dksX5_promise_0 11 rfl rfl)
theorem dX5_promise_13 : decode cX5_promise 13 = .ok (.invokestatic 187, 3) := dk_184 0 187 (dk_at dksX5_promise_0 13 rfl rfl)
theorem dX5_promise_16 : decode cX5_promise 16 = .ok (.ifCond .ne 7, 3) := dk_154 0 7 (dk_at dksX5_promise_0 16 rfl rfl)
theorem dX5_promise_19 : decode cX5_promise 19 = .ok (.iconst 1, 1) := dk_4 (dk_at dksX5_promise_0 19 rfl rfl)
theorem dX5_promise_20 : decode cX5_promise 20 = .ok (.goto 4, 3) := dk_167 0 4 (dk_at dksX5_promise_0 20 rfl rfl)
theorem dX5_promise_23 : decode cX5_promise 23 = .ok (.iconst 0, 1) := dk_3 (dk_at dksX5_promise_0 23 rfl rfl)
theorem dX5_promise_24 : decode cX5_promise 24 = .ok (.invokevirtual 247, 3) := dk_182 0 247 (dk_at dksX5_promise_1 0 rfl rfl)
theorem dX5_promise_27 : decode cX5_promise 27 = .ok (.ifCond .eq 5, 3) := dk_153 0 5 (dk_at dksX5_promise_1 3 rfl rfl)
theorem dX5_promise_30 : decode cX5_promise 30 = .ok (.iconst 0, 1) := dk_3 (dk_at dksX5_promise_1 6 rfl rfl)
theorem dX5_promise_31 : decode cX5_promise 31 = .ok (.ireturn, 1) := dk_172 (dk_at dksX5_promise_1 7 rfl rfl)
theorem dX5_promise_32 : decode cX5_promise 32 = .ok (.iload_n 2, 1) := dk_28 (dk_at dksX5_promise_1 8 rfl rfl)
theorem dX5_promise_33 : decode cX5_promise 33 = .ok (.tableswitch 145 0 8 #[51, 61, 71, 81, 91, 101, 111, 121, 133], 51) := by decide +kernel
theorem dX5_promise_84 : decode cX5_promise 84 = .ok (.aload_n 0, 1) := dk_42 (dk_at dksX5_promise_3 0 rfl rfl)
theorem dX5_promise_85 : decode cX5_promise 85 = .ok (.getfield 33, 3) := dk_180 0 33 (dk_at dksX5_promise_3 1 rfl rfl)
theorem dX5_promise_88 : decode cX5_promise 88 = .ok (.bipush 26, 2) := dk_16 26 (dk_at dksX5_promise_3 4 rfl rfl)
theorem dX5_promise_90 : decode cX5_promise 90 = .ok (.iload_n 1, 1) := dk_27 (dk_at dksX5_promise_3 6 rfl rfl)
theorem dX5_promise_91 : decode cX5_promise 91 = .ok (.iadd, 1) := dk_96 (dk_at dksX5_promise_3 7 rfl rfl)
theorem dX5_promise_92 : decode cX5_promise 92 = .ok (.iaload, 1) := dk_46 (dk_at dksX5_promise_3 8 rfl rfl)
theorem dX5_promise_93 : decode cX5_promise 93 = .ok (.ireturn, 1) := dk_172 (dk_at dksX5_promise_3 9 rfl rfl)
theorem dX5_promise_94 : decode cX5_promise 94 = .ok (.aload_n 0, 1) := dk_42 (dk_at dksX5_promise_3 10 rfl rfl)
theorem dX5_promise_95 : decode cX5_promise 95 = .ok (.getfield 33, 3) := dk_180 0 33 (dk_at dksX5_promise_3 11 rfl rfl)
theorem dX5_promise_98 : decode cX5_promise 98 = .ok (.bipush 34, 2) := dk_16 34 (dk_at dksX5_promise_3 14 rfl rfl)
theorem dX5_promise_100 : decode cX5_promise 100 = .ok (.iload_n 1, 1) := dk_27 (dk_at dksX5_promise_3 16 rfl rfl)
theorem dX5_promise_101 : decode cX5_promise 101 = .ok (.iadd, 1) := dk_96 (dk_at dksX5_promise_3 17 rfl rfl)
theorem dX5_promise_102 : decode cX5_promise 102 = .ok (.iaload, 1) := dk_46 (dk_at dksX5_promise_3 18 rfl rfl)
theorem dX5_promise_103 : decode cX5_promise 103 = .ok (.ireturn, 1) := dk_172 (dk_at dksX5_promise_3 19 rfl rfl)
theorem dX5_promise_104 : decode cX5_promise 104 = .ok (.aload_n 0, 1) := dk_42 (dk_at dksX5_promise_3 20 rfl rfl)
theorem dX5_promise_105 : decode cX5_promise 105 = .ok (.getfield 33, 3) := dk_180 0 33 (dk_at dksX5_promise_3 21 rfl rfl)
theorem dX5_promise_108 : decode cX5_promise 108 = .ok (.bipush 42, 2) := dk_16 42 (dk_at dksX5_promise_4 0 rfl rfl)
theorem dX5_promise_110 : decode cX5_promise 110 = .ok (.iload_n 1, 1) := dk_27 (dk_at dksX5_promise_4 2 rfl rfl)
theorem dX5_promise_111 : decode cX5_promise 111 = .ok (.iadd, 1) := dk_96 (dk_at dksX5_promise_4 3 rfl rfl)
theorem dX5_promise_112 : decode cX5_promise 112 = .ok (.iaload, 1) := dk_46 (dk_at dksX5_promise_4 4 rfl rfl)
theorem dX5_promise_113 : decode cX5_promise 113 = .ok (.ireturn, 1) := dk_172 (dk_at dksX5_promise_4 5 rfl rfl)
theorem dX5_promise_114 : decode cX5_promise 114 = .ok (.aload_n 0, 1) := dk_42 (dk_at dksX5_promise_4 6 rfl rfl)
theorem dX5_promise_115 : decode cX5_promise 115 = .ok (.getfield 33, 3) := dk_180 0 33 (dk_at dksX5_promise_4 7 rfl rfl)
theorem dX5_promise_118 : decode cX5_promise 118 = .ok (.bipush 50, 2) := dk_16 50 (dk_at dksX5_promise_4 10 rfl rfl)
theorem dX5_promise_120 : decode cX5_promise 120 = .ok (.iload_n 1, 1) := dk_27 (dk_at dksX5_promise_4 12 rfl rfl)
theorem dX5_promise_121 : decode cX5_promise 121 = .ok (.iadd, 1) := dk_96 (dk_at dksX5_promise_4 13 rfl rfl)
theorem dX5_promise_122 : decode cX5_promise 122 = .ok (.iaload, 1) := dk_46 (dk_at dksX5_promise_4 14 rfl rfl)
theorem dX5_promise_123 : decode cX5_promise 123 = .ok (.ireturn, 1) := dk_172 (dk_at dksX5_promise_4 15 rfl rfl)
theorem dX5_promise_124 : decode cX5_promise 124 = .ok (.aload_n 0, 1) := dk_42 (dk_at dksX5_promise_4 16 rfl rfl)
theorem dX5_promise_125 : decode cX5_promise 125 = .ok (.getfield 33, 3) := dk_180 0 33 (dk_at dksX5_promise_4 17 rfl rfl)
theorem dX5_promise_128 : decode cX5_promise 128 = .ok (.bipush 58, 2) := dk_16 58 (dk_at dksX5_promise_4 20 rfl rfl)
theorem dX5_promise_130 : decode cX5_promise 130 = .ok (.iload_n 1, 1) := dk_27 (dk_at dksX5_promise_4 22 rfl rfl)
theorem dX5_promise_131 : decode cX5_promise 131 = .ok (.iadd, 1) := dk_96 (dk_at dksX5_promise_4 23 rfl rfl)
theorem dX5_promise_132 : decode cX5_promise 132 = .ok (.iaload, 1) := dk_46 (dk_at dksX5_promise_5 0 rfl rfl)
theorem dX5_promise_133 : decode cX5_promise 133 = .ok (.ireturn, 1) := dk_172 (dk_at dksX5_promise_5 1 rfl rfl)
theorem dX5_promise_134 : decode cX5_promise 134 = .ok (.aload_n 0, 1) := dk_42 (dk_at dksX5_promise_5 2 rfl rfl)
theorem dX5_promise_135 : decode cX5_promise 135 = .ok (.getfield 33, 3) := dk_180 0 33 (dk_at dksX5_promise_5 3 rfl rfl)
theorem dX5_promise_138 : decode cX5_promise 138 = .ok (.bipush 66, 2) := dk_16 66 (dk_at dksX5_promise_5 6 rfl rfl)
theorem dX5_promise_140 : decode cX5_promise 140 = .ok (.iload_n 1, 1) := dk_27 (dk_at dksX5_promise_5 8 rfl rfl)
theorem dX5_promise_141 : decode cX5_promise 141 = .ok (.iadd, 1) := dk_96 (dk_at dksX5_promise_5 9 rfl rfl)
theorem dX5_promise_142 : decode cX5_promise 142 = .ok (.iaload, 1) := dk_46 (dk_at dksX5_promise_5 10 rfl rfl)
theorem dX5_promise_143 : decode cX5_promise 143 = .ok (.ireturn, 1) := dk_172 (dk_at dksX5_promise_5 11 rfl rfl)
theorem dX5_promise_144 : decode cX5_promise 144 = .ok (.aload_n 0, 1) := dk_42 (dk_at dksX5_promise_5 12 rfl rfl)
theorem dX5_promise_145 : decode cX5_promise 145 = .ok (.getfield 33, 3) := dk_180 0 33 (dk_at dksX5_promise_5 13 rfl rfl)
theorem dX5_promise_148 : decode cX5_promise 148 = .ok (.bipush 74, 2) := dk_16 74 (dk_at dksX5_promise_5 16 rfl rfl)
theorem dX5_promise_150 : decode cX5_promise 150 = .ok (.iload_n 1, 1) := dk_27 (dk_at dksX5_promise_5 18 rfl rfl)
theorem dX5_promise_151 : decode cX5_promise 151 = .ok (.iadd, 1) := dk_96 (dk_at dksX5_promise_5 19 rfl rfl)
theorem dX5_promise_152 : decode cX5_promise 152 = .ok (.iaload, 1) := dk_46 (dk_at dksX5_promise_5 20 rfl rfl)
theorem dX5_promise_153 : decode cX5_promise 153 = .ok (.ireturn, 1) := dk_172 (dk_at dksX5_promise_5 21 rfl rfl)
theorem dX5_promise_154 : decode cX5_promise 154 = .ok (.aload_n 0, 1) := dk_42 (dk_at dksX5_promise_5 22 rfl rfl)
theorem dX5_promise_155 : decode cX5_promise 155 = .ok (.getfield 33, 3) := dk_180 0 33 (dk_at dksX5_promise_6 0 rfl rfl)
theorem dX5_promise_158 : decode cX5_promise 158 = .ok (.bipush 82, 2) := dk_16 82 (dk_at dksX5_promise_6 3 rfl rfl)
theorem dX5_promise_160 : decode cX5_promise 160 = .ok (.iload_n 1, 1) := dk_27 (dk_at dksX5_promise_6 5 rfl rfl)
theorem dX5_promise_161 : decode cX5_promise 161 = .ok (.iadd, 1) := dk_96 (dk_at dksX5_promise_6 6 rfl rfl)
theorem dX5_promise_162 : decode cX5_promise 162 = .ok (.iaload, 1) := dk_46 (dk_at dksX5_promise_6 7 rfl rfl)
theorem dX5_promise_163 : decode cX5_promise 163 = .ok (.iconst 1, 1) := dk_4 (dk_at dksX5_promise_6 8 rfl rfl)
theorem dX5_promise_164 : decode cX5_promise 164 = .ok (.isub, 1) := dk_100 (dk_at dksX5_promise_6 9 rfl rfl)
theorem dX5_promise_165 : decode cX5_promise 165 = .ok (.ireturn, 1) := dk_172 (dk_at dksX5_promise_6 10 rfl rfl)
theorem dX5_promise_166 : decode cX5_promise 166 = .ok (.aload_n 0, 1) := dk_42 (dk_at dksX5_promise_6 11 rfl rfl)
theorem dX5_promise_167 : decode cX5_promise 167 = .ok (.getfield 33, 3) := dk_180 0 33 (dk_at dksX5_promise_6 12 rfl rfl)
theorem dX5_promise_170 : decode cX5_promise 170 = .ok (.bipush 124, 2) := dk_16 124 (dk_at dksX5_promise_6 15 rfl rfl)
theorem dX5_promise_172 : decode cX5_promise 172 = .ok (.iload_n 1, 1) := dk_27 (dk_at dksX5_promise_6 17 rfl rfl)
theorem dX5_promise_173 : decode cX5_promise 173 = .ok (.iadd, 1) := dk_96 (dk_at dksX5_promise_6 18 rfl rfl)
theorem dX5_promise_174 : decode cX5_promise 174 = .ok (.iaload, 1) := dk_46 (dk_at dksX5_promise_6 19 rfl rfl)
theorem dX5_promise_175 : decode cX5_promise 175 = .ok (.iconst 1, 1) := dk_4 (dk_at dksX5_promise_6 20 rfl rfl)
theorem dX5_promise_176 : decode cX5_promise 176 = .ok (.isub, 1) := dk_100 (dk_at dksX5_promise_6 21 rfl rfl)
theorem dX5_promise_177 : decode cX5_promise 177 = .ok (.ireturn, 1) := dk_172 (dk_at dksX5_promise_6 22 rfl rfl)
theorem dX5_promise_178 : decode cX5_promise 178 = .ok (.aload_n 0, 1) := dk_42 (dk_at dksX5_promise_6 23 rfl rfl)
theorem dX5_promise_179 : decode cX5_promise 179 = .ok (.getfield 33, 3) := dk_180 0 33 (dk_at dksX5_promise_7 0 rfl rfl)
theorem dX5_promise_182 : decode cX5_promise 182 = .ok (.sipush 132, 3) := dk_17 0 132 (dk_at dksX5_promise_7 3 rfl rfl)
theorem dX5_promise_185 : decode cX5_promise 185 = .ok (.iload_n 1, 1) := dk_27 (dk_at dksX5_promise_7 6 rfl rfl)
theorem dX5_promise_186 : decode cX5_promise 186 = .ok (.iadd, 1) := dk_96 (dk_at dksX5_promise_7 7 rfl rfl)
theorem dX5_promise_187 : decode cX5_promise 187 = .ok (.iaload, 1) := dk_46 (dk_at dksX5_promise_7 8 rfl rfl)
theorem dX5_promise_188 : decode cX5_promise 188 = .ok (.ireturn, 1) := dk_172 (dk_at dksX5_promise_7 9 rfl rfl)
abbrev cX5_isPromise : ByteArray := prog_26_method_33_code
def yX5_isPromise : MethodName := ⟨RX5, "isPromise", "(I)Z"⟩
def dkwX5_isPromise_0 : List UInt8 := [27, 3, 42, 180, 0, 33, 16, 6, 46, 4, 100, 184, 0, 187, 172]
abbrev dktX5_isPromise_0 : List UInt8 := dkwX5_isPromise_0 ++ []
theorem dksX5_isPromise_0 : cX5_isPromise.data.toList.drop 0 = dktX5_isPromise_0 := by decide +kernel
theorem dX5_isPromise_0 : decode cX5_isPromise 0 = .ok (.iload_n 1, 1) := dk_27 (dk_at dksX5_isPromise_0 0 rfl rfl)
theorem dX5_isPromise_1 : decode cX5_isPromise 1 = .ok (.iconst 0, 1) := dk_3 (dk_at dksX5_isPromise_0 1 rfl rfl)
theorem dX5_isPromise_2 : decode cX5_isPromise 2 = .ok (.aload_n 0, 1) := dk_42 (dk_at dksX5_isPromise_0 2 rfl rfl)
theorem dX5_isPromise_3 : decode cX5_isPromise 3 = .ok (.getfield 33, 3) := dk_180 0 33 (dk_at dksX5_isPromise_0 3 rfl rfl)
theorem dX5_isPromise_6 : decode cX5_isPromise 6 = .ok (.bipush 6, 2) := dk_16 6 (dk_at dksX5_isPromise_0 6 rfl rfl)
theorem dX5_isPromise_8 : decode cX5_isPromise 8 = .ok (.iaload, 1) := dk_46 (dk_at dksX5_isPromise_0 8 rfl rfl)
theorem dX5_isPromise_9 : decode cX5_isPromise 9 = .ok (.iconst 1, 1) := dk_4 (dk_at dksX5_isPromise_0 9 rfl rfl)
theorem dX5_isPromise_10 : decode cX5_isPromise 10 = .ok (.isub, 1) := dk_100 (dk_at dksX5_isPromise_0 10 rfl rfl)
theorem dX5_isPromise_11 : decode cX5_isPromise 11 = .ok (.invokestatic 187, 3) := dk_184 0 187 (dk_at dksX5_isPromise_0 11 rfl rfl)
theorem dX5_isPromise_14 : decode cX5_isPromise 14 = .ok (.ireturn, 1) := dk_172 (dk_at dksX5_isPromise_0 14 rfl rfl)
abbrev cX5_throwsIf : ByteArray := prog_26_method_2_code
def yX5_throwsIf : MethodName := ⟨RX5, "throwsIf", "(Z)Z"⟩
def dkwX5_throwsIf_0 : List UInt8 := [42, 27, 153, 0, 7, 4, 167, 0, 4, 3, 181, 0, 1, 27, 172]
abbrev dktX5_throwsIf_0 : List UInt8 := dkwX5_throwsIf_0 ++ []
theorem dksX5_throwsIf_0 : cX5_throwsIf.data.toList.drop 0 = dktX5_throwsIf_0 := by decide +kernel
theorem dX5_throwsIf_0 : decode cX5_throwsIf 0 = .ok (.aload_n 0, 1) := dk_42 (dk_at dksX5_throwsIf_0 0 rfl rfl)
theorem dX5_throwsIf_1 : decode cX5_throwsIf 1 = .ok (.iload_n 1, 1) := dk_27 (dk_at dksX5_throwsIf_0 1 rfl rfl)
theorem dX5_throwsIf_2 : decode cX5_throwsIf 2 = .ok (.ifCond .eq 7, 3) := dk_153 0 7 (dk_at dksX5_throwsIf_0 2 rfl rfl)
theorem dX5_throwsIf_5 : decode cX5_throwsIf 5 = .ok (.iconst 1, 1) := dk_4 (dk_at dksX5_throwsIf_0 5 rfl rfl)
theorem dX5_throwsIf_6 : decode cX5_throwsIf 6 = .ok (.goto 4, 3) := dk_167 0 4 (dk_at dksX5_throwsIf_0 6 rfl rfl)
theorem dX5_throwsIf_9 : decode cX5_throwsIf 9 = .ok (.iconst 0, 1) := dk_3 (dk_at dksX5_throwsIf_0 9 rfl rfl)
theorem dX5_throwsIf_10 : decode cX5_throwsIf 10 = .ok (.putfield 1, 3) := dk_181 0 1 (dk_at dksX5_throwsIf_0 10 rfl rfl)
theorem dX5_throwsIf_13 : decode cX5_throwsIf 13 = .ok (.iload_n 1, 1) := dk_27 (dk_at dksX5_throwsIf_0 13 rfl rfl)
theorem dX5_throwsIf_14 : decode cX5_throwsIf 14 = .ok (.ireturn, 1) := dk_172 (dk_at dksX5_throwsIf_0 14 rfl rfl)
abbrev cX5_person : ByteArray := prog_26_method_36_code
def yX5_person : MethodName := ⟨RX5, "person", "(II)I"⟩
def dkwX5_person_3 : List UInt8 := [16, 115, 27, 96, 46, 172, 42, 180, 0, 33, 16, 119, 27, 96, 46, 172, 2, 172]
abbrev dktX5_person_3 : List UInt8 := dkwX5_person_3 ++ []
def dkwX5_person_2 : List UInt8 := [42, 180, 0, 33, 16, 107, 27, 96, 46, 172, 42, 180, 0, 33, 16, 111, 27, 96, 46, 172, 42, 180, 0, 33]
abbrev dktX5_person_2 : List UInt8 := dkwX5_person_2 ++ dktX5_person_3
def dkwX5_person_1 : List UInt8 := [170, 0, 0, 0, 0, 0, 0, 72, 0, 0, 0, 0, 0, 0, 0, 3, 0, 0, 0, 32, 0, 0, 0, 42, 0, 0, 0, 52, 0, 0, 0, 62]
abbrev dktX5_person_1 : List UInt8 := dkwX5_person_1 ++ dktX5_person_2
def dkwX5_person_0 : List UInt8 := [42, 3, 181, 0, 1, 42, 27, 182, 0, 251, 154, 0, 5, 2, 172, 28]
abbrev dktX5_person_0 : List UInt8 := dkwX5_person_0 ++ dktX5_person_1
theorem dksX5_person_0 : cX5_person.data.toList.drop 0 = dktX5_person_0 := by decide +kernel
theorem dksX5_person_1 : cX5_person.data.toList.drop 16 = dktX5_person_1 := dk_seg dksX5_person_0 16 rfl rfl
theorem dksX5_person_2 : cX5_person.data.toList.drop 48 = dktX5_person_2 := dk_seg dksX5_person_1 32 rfl rfl
theorem dksX5_person_3 : cX5_person.data.toList.drop 72 = dktX5_person_3 := dk_seg dksX5_person_2 24 rfl rfl
theorem dX5_person_0 : decode cX5_person 0 = .ok (.aload_n 0, 1) := dk_42 (dk_at dksX5_person_0 0 rfl rfl)
theorem dX5_person_1 : decode cX5_person 1 = .ok (.iconst 0, 1) := dk_3 (dk_at dksX5_person_0 1 rfl rfl)
theorem dX5_person_2 : decode cX5_person 2 = .ok (.putfield 1, 3) := dk_181 0 1 (dk_at dksX5_person_0 2 rfl rfl)
theorem dX5_person_5 : decode cX5_person 5 = .ok (.aload_n 0, 1) := dk_42 (dk_at dksX5_person_0 5 rfl rfl)
theorem dX5_person_6 : decode cX5_person 6 = .ok (.iload_n 1, 1) := dk_27 (dk_at dksX5_person_0 6 rfl rfl)
theorem dX5_person_7 : decode cX5_person 7 = .ok (.invokevirtual 251, 3) := dk_182 0 251 (dk_at dksX5_person_0 7 rfl rfl)
theorem dX5_person_10 : decode cX5_person 10 = .ok (.ifCond .ne 5, 3) := dk_154 0 5 (dk_at dksX5_person_0 10 rfl rfl)
theorem dX5_person_13 : decode cX5_person 13 = .ok (.iconst (-1), 1) := dk_2 (dk_at dksX5_person_0 13 rfl rfl)
theorem dX5_person_14 : decode cX5_person 14 = .ok (.ireturn, 1) := dk_172 (dk_at dksX5_person_0 14 rfl rfl)
theorem dX5_person_15 : decode cX5_person 15 = .ok (.iload_n 2, 1) := dk_28 (dk_at dksX5_person_0 15 rfl rfl)
theorem dX5_person_16 : decode cX5_person 16 = .ok (.tableswitch 72 0 3 #[32, 42, 52, 62], 32) := by decide +kernel
theorem dX5_person_48 : decode cX5_person 48 = .ok (.aload_n 0, 1) := dk_42 (dk_at dksX5_person_2 0 rfl rfl)
theorem dX5_person_49 : decode cX5_person 49 = .ok (.getfield 33, 3) := dk_180 0 33 (dk_at dksX5_person_2 1 rfl rfl)
theorem dX5_person_52 : decode cX5_person 52 = .ok (.bipush 107, 2) := dk_16 107 (dk_at dksX5_person_2 4 rfl rfl)
theorem dX5_person_54 : decode cX5_person 54 = .ok (.iload_n 1, 1) := dk_27 (dk_at dksX5_person_2 6 rfl rfl)
theorem dX5_person_55 : decode cX5_person 55 = .ok (.iadd, 1) := dk_96 (dk_at dksX5_person_2 7 rfl rfl)
theorem dX5_person_56 : decode cX5_person 56 = .ok (.iaload, 1) := dk_46 (dk_at dksX5_person_2 8 rfl rfl)
theorem dX5_person_57 : decode cX5_person 57 = .ok (.ireturn, 1) := dk_172 (dk_at dksX5_person_2 9 rfl rfl)
theorem dX5_person_58 : decode cX5_person 58 = .ok (.aload_n 0, 1) := dk_42 (dk_at dksX5_person_2 10 rfl rfl)
theorem dX5_person_59 : decode cX5_person 59 = .ok (.getfield 33, 3) := dk_180 0 33 (dk_at dksX5_person_2 11 rfl rfl)
theorem dX5_person_62 : decode cX5_person 62 = .ok (.bipush 111, 2) := dk_16 111 (dk_at dksX5_person_2 14 rfl rfl)
theorem dX5_person_64 : decode cX5_person 64 = .ok (.iload_n 1, 1) := dk_27 (dk_at dksX5_person_2 16 rfl rfl)
theorem dX5_person_65 : decode cX5_person 65 = .ok (.iadd, 1) := dk_96 (dk_at dksX5_person_2 17 rfl rfl)
theorem dX5_person_66 : decode cX5_person 66 = .ok (.iaload, 1) := dk_46 (dk_at dksX5_person_2 18 rfl rfl)
theorem dX5_person_67 : decode cX5_person 67 = .ok (.ireturn, 1) := dk_172 (dk_at dksX5_person_2 19 rfl rfl)
theorem dX5_person_68 : decode cX5_person 68 = .ok (.aload_n 0, 1) := dk_42 (dk_at dksX5_person_2 20 rfl rfl)
theorem dX5_person_69 : decode cX5_person 69 = .ok (.getfield 33, 3) := dk_180 0 33 (dk_at dksX5_person_2 21 rfl rfl)
theorem dX5_person_72 : decode cX5_person 72 = .ok (.bipush 115, 2) := dk_16 115 (dk_at dksX5_person_3 0 rfl rfl)
theorem dX5_person_74 : decode cX5_person 74 = .ok (.iload_n 1, 1) := dk_27 (dk_at dksX5_person_3 2 rfl rfl)
theorem dX5_person_75 : decode cX5_person 75 = .ok (.iadd, 1) := dk_96 (dk_at dksX5_person_3 3 rfl rfl)
theorem dX5_person_76 : decode cX5_person 76 = .ok (.iaload, 1) := dk_46 (dk_at dksX5_person_3 4 rfl rfl)
theorem dX5_person_77 : decode cX5_person 77 = .ok (.ireturn, 1) := dk_172 (dk_at dksX5_person_3 5 rfl rfl)
theorem dX5_person_78 : decode cX5_person 78 = .ok (.aload_n 0, 1) := dk_42 (dk_at dksX5_person_3 6 rfl rfl)
theorem dX5_person_79 : decode cX5_person 79 = .ok (.getfield 33, 3) := dk_180 0 33 (dk_at dksX5_person_3 7 rfl rfl)
theorem dX5_person_82 : decode cX5_person 82 = .ok (.bipush 119, 2) := dk_16 119 (dk_at dksX5_person_3 10 rfl rfl)
theorem dX5_person_84 : decode cX5_person 84 = .ok (.iload_n 1, 1) := dk_27 (dk_at dksX5_person_3 12 rfl rfl)
theorem dX5_person_85 : decode cX5_person 85 = .ok (.iadd, 1) := dk_96 (dk_at dksX5_person_3 13 rfl rfl)
theorem dX5_person_86 : decode cX5_person 86 = .ok (.iaload, 1) := dk_46 (dk_at dksX5_person_3 14 rfl rfl)
theorem dX5_person_87 : decode cX5_person 87 = .ok (.ireturn, 1) := dk_172 (dk_at dksX5_person_3 15 rfl rfl)
theorem dX5_person_88 : decode cX5_person 88 = .ok (.iconst (-1), 1) := dk_2 (dk_at dksX5_person_3 16 rfl rfl)
theorem dX5_person_89 : decode cX5_person 89 = .ok (.ireturn, 1) := dk_172 (dk_at dksX5_person_3 17 rfl rfl)
abbrev cX5_isPerson : ByteArray := prog_26_method_31_code
def yX5_isPerson : MethodName := ⟨RX5, "isPerson", "(I)Z"⟩
def dkwX5_isPerson_0 : List UInt8 := [27, 3, 42, 180, 0, 33, 7, 46, 4, 100, 184, 0, 187, 172]
abbrev dktX5_isPerson_0 : List UInt8 := dkwX5_isPerson_0 ++ []
theorem dksX5_isPerson_0 : cX5_isPerson.data.toList.drop 0 = dktX5_isPerson_0 := by decide +kernel
theorem dX5_isPerson_0 : decode cX5_isPerson 0 = .ok (.iload_n 1, 1) := dk_27 (dk_at dksX5_isPerson_0 0 rfl rfl)
theorem dX5_isPerson_1 : decode cX5_isPerson 1 = .ok (.iconst 0, 1) := dk_3 (dk_at dksX5_isPerson_0 1 rfl rfl)
theorem dX5_isPerson_2 : decode cX5_isPerson 2 = .ok (.aload_n 0, 1) := dk_42 (dk_at dksX5_isPerson_0 2 rfl rfl)
theorem dX5_isPerson_3 : decode cX5_isPerson 3 = .ok (.getfield 33, 3) := dk_180 0 33 (dk_at dksX5_isPerson_0 3 rfl rfl)
theorem dX5_isPerson_6 : decode cX5_isPerson 6 = .ok (.iconst 4, 1) := dk_7 (dk_at dksX5_isPerson_0 6 rfl rfl)
theorem dX5_isPerson_7 : decode cX5_isPerson 7 = .ok (.iaload, 1) := dk_46 (dk_at dksX5_isPerson_0 7 rfl rfl)
theorem dX5_isPerson_8 : decode cX5_isPerson 8 = .ok (.iconst 1, 1) := dk_4 (dk_at dksX5_isPerson_0 8 rfl rfl)
theorem dX5_isPerson_9 : decode cX5_isPerson 9 = .ok (.isub, 1) := dk_100 (dk_at dksX5_isPerson_0 9 rfl rfl)
theorem dX5_isPerson_10 : decode cX5_isPerson 10 = .ok (.invokestatic 187, 3) := dk_184 0 187 (dk_at dksX5_isPerson_0 10 rfl rfl)
theorem dX5_isPerson_13 : decode cX5_isPerson 13 = .ok (.ireturn, 1) := dk_172 (dk_at dksX5_isPerson_0 13 rfl rfl)
abbrev cX5_way : ByteArray := prog_26_method_37_code
def yX5_way : MethodName := ⟨RX5, "way", "(II)I"⟩
def dkwX5_way_7 : List UInt8 := [162, 0, 12, 42, 180, 0, 50, 28, 46, 167, 0, 4, 2, 172]
abbrev dktX5_way_7 : List UInt8 := dkwX5_way_7 ++ []
def dkwX5_way_6 : List UInt8 := [167, 255, 193, 132, 4, 1, 167, 255, 177, 132, 3, 1, 167, 255, 162, 42, 180, 0, 50, 28, 46, 17, 3, 232]
abbrev dktX5_way_6 : List UInt8 := dkwX5_way_6 ++ dktX5_way_7
def dkwX5_way_5 : List UInt8 := [162, 0, 19, 42, 180, 0, 50, 21, 5, 42, 180, 0, 50, 21, 4, 46, 4, 96, 79, 132, 5, 1]
abbrev dktX5_way_5 : List UInt8 := dkwX5_way_5 ++ dktX5_way_6
def dkwX5_way_4 : List UInt8 := [21, 5, 184, 0, 223, 153, 0, 38, 42, 180, 0, 50, 21, 4, 46, 4, 96, 42, 180, 0, 50, 21, 5, 46]
abbrev dktX5_way_4 : List UInt8 := dkwX5_way_4 ++ dktX5_way_5
def dkwX5_way_3 : List UInt8 := [162, 0, 78, 3, 54, 5, 21, 5, 16, 8, 162, 0, 62, 42, 180, 0, 33, 16, 8, 21, 4, 96, 46]
abbrev dktX5_way_3 : List UInt8 := dkwX5_way_3 ++ dktX5_way_4
def dkwX5_way_2 : List UInt8 := [79, 132, 3, 1, 167, 255, 229, 3, 62, 29, 16, 8, 162, 0, 94, 3, 54, 4, 21, 4, 16, 8]
abbrev dktX5_way_2 : List UInt8 := dkwX5_way_2 ++ dktX5_way_3
def dkwX5_way_1 : List UInt8 := [62, 29, 16, 8, 162, 0, 27, 42, 180, 0, 50, 29, 29, 27, 160, 0, 7, 3, 167, 0, 6, 17, 3, 232]
abbrev dktX5_way_1 : List UInt8 := dkwX5_way_1 ++ dktX5_way_2
def dkwX5_way_0 : List UInt8 := [42, 3, 181, 0, 1, 42, 27, 182, 0, 254, 153, 0, 11, 42, 28, 182, 0, 254, 154, 0, 5, 2, 172, 3]
abbrev dktX5_way_0 : List UInt8 := dkwX5_way_0 ++ dktX5_way_1
theorem dksX5_way_0 : cX5_way.data.toList.drop 0 = dktX5_way_0 := by decide +kernel
theorem dksX5_way_1 : cX5_way.data.toList.drop 24 = dktX5_way_1 := dk_seg dksX5_way_0 24 rfl rfl
theorem dksX5_way_2 : cX5_way.data.toList.drop 48 = dktX5_way_2 := dk_seg dksX5_way_1 24 rfl rfl
theorem dksX5_way_3 : cX5_way.data.toList.drop 70 = dktX5_way_3 := dk_seg dksX5_way_2 22 rfl rfl
theorem dksX5_way_4 : cX5_way.data.toList.drop 93 = dktX5_way_4 := dk_seg dksX5_way_3 23 rfl rfl
theorem dksX5_way_5 : cX5_way.data.toList.drop 117 = dktX5_way_5 := dk_seg dksX5_way_4 24 rfl rfl
theorem dksX5_way_6 : cX5_way.data.toList.drop 139 = dktX5_way_6 := dk_seg dksX5_way_5 22 rfl rfl
theorem dksX5_way_7 : cX5_way.data.toList.drop 163 = dktX5_way_7 := dk_seg dksX5_way_6 24 rfl rfl
theorem dX5_way_0 : decode cX5_way 0 = .ok (.aload_n 0, 1) := dk_42 (dk_at dksX5_way_0 0 rfl rfl)
theorem dX5_way_1 : decode cX5_way 1 = .ok (.iconst 0, 1) := dk_3 (dk_at dksX5_way_0 1 rfl rfl)
theorem dX5_way_2 : decode cX5_way 2 = .ok (.putfield 1, 3) := dk_181 0 1 (dk_at dksX5_way_0 2 rfl rfl)
theorem dX5_way_5 : decode cX5_way 5 = .ok (.aload_n 0, 1) := dk_42 (dk_at dksX5_way_0 5 rfl rfl)
theorem dX5_way_6 : decode cX5_way 6 = .ok (.iload_n 1, 1) := dk_27 (dk_at dksX5_way_0 6 rfl rfl)
theorem dX5_way_7 : decode cX5_way 7 = .ok (.invokevirtual 254, 3) := dk_182 0 254 (dk_at dksX5_way_0 7 rfl rfl)
theorem dX5_way_10 : decode cX5_way 10 = .ok (.ifCond .eq 11, 3) := dk_153 0 11 (dk_at dksX5_way_0 10 rfl rfl)
theorem dX5_way_13 : decode cX5_way 13 = .ok (.aload_n 0, 1) := dk_42 (dk_at dksX5_way_0 13 rfl rfl)
theorem dX5_way_14 : decode cX5_way 14 = .ok (.iload_n 2, 1) := dk_28 (dk_at dksX5_way_0 14 rfl rfl)
theorem dX5_way_15 : decode cX5_way 15 = .ok (.invokevirtual 254, 3) := dk_182 0 254 (dk_at dksX5_way_0 15 rfl rfl)
theorem dX5_way_18 : decode cX5_way 18 = .ok (.ifCond .ne 5, 3) := dk_154 0 5 (dk_at dksX5_way_0 18 rfl rfl)
theorem dX5_way_21 : decode cX5_way 21 = .ok (.iconst (-1), 1) := dk_2 (dk_at dksX5_way_0 21 rfl rfl)
theorem dX5_way_22 : decode cX5_way 22 = .ok (.ireturn, 1) := dk_172 (dk_at dksX5_way_0 22 rfl rfl)
theorem dX5_way_23 : decode cX5_way 23 = .ok (.iconst 0, 1) := dk_3 (dk_at dksX5_way_0 23 rfl rfl)
theorem dX5_way_24 : decode cX5_way 24 = .ok (.istore_n 3, 1) := dk_62 (dk_at dksX5_way_1 0 rfl rfl)
theorem dX5_way_25 : decode cX5_way 25 = .ok (.iload_n 3, 1) := dk_29 (dk_at dksX5_way_1 1 rfl rfl)
theorem dX5_way_26 : decode cX5_way 26 = .ok (.bipush 8, 2) := dk_16 8 (dk_at dksX5_way_1 2 rfl rfl)
theorem dX5_way_28 : decode cX5_way 28 = .ok (.if_icmp .ge 27, 3) := dk_162 0 27 (dk_at dksX5_way_1 4 rfl rfl)
theorem dX5_way_31 : decode cX5_way 31 = .ok (.aload_n 0, 1) := dk_42 (dk_at dksX5_way_1 7 rfl rfl)
theorem dX5_way_32 : decode cX5_way 32 = .ok (.getfield 50, 3) := dk_180 0 50 (dk_at dksX5_way_1 8 rfl rfl)
theorem dX5_way_35 : decode cX5_way 35 = .ok (.iload_n 3, 1) := dk_29 (dk_at dksX5_way_1 11 rfl rfl)
theorem dX5_way_36 : decode cX5_way 36 = .ok (.iload_n 3, 1) := dk_29 (dk_at dksX5_way_1 12 rfl rfl)
theorem dX5_way_37 : decode cX5_way 37 = .ok (.iload_n 1, 1) := dk_27 (dk_at dksX5_way_1 13 rfl rfl)
theorem dX5_way_38 : decode cX5_way 38 = .ok (.if_icmp .ne 7, 3) := dk_160 0 7 (dk_at dksX5_way_1 14 rfl rfl)
theorem dX5_way_41 : decode cX5_way 41 = .ok (.iconst 0, 1) := dk_3 (dk_at dksX5_way_1 17 rfl rfl)
theorem dX5_way_42 : decode cX5_way 42 = .ok (.goto 6, 3) := dk_167 0 6 (dk_at dksX5_way_1 18 rfl rfl)
theorem dX5_way_45 : decode cX5_way 45 = .ok (.sipush 1000, 3) := dk_17 3 232 (dk_at dksX5_way_1 21 rfl rfl)
theorem dX5_way_48 : decode cX5_way 48 = .ok (.iastore, 1) := dk_79 (dk_at dksX5_way_2 0 rfl rfl)
theorem dX5_way_49 : decode cX5_way 49 = .ok (.iinc 3 1, 3) := dk_132 3 1 (dk_at dksX5_way_2 1 rfl rfl)
theorem dX5_way_52 : decode cX5_way 52 = .ok (.goto (-27), 3) := dk_167 255 229 (dk_at dksX5_way_2 4 rfl rfl)
theorem dX5_way_55 : decode cX5_way 55 = .ok (.iconst 0, 1) := dk_3 (dk_at dksX5_way_2 7 rfl rfl)
theorem dX5_way_56 : decode cX5_way 56 = .ok (.istore_n 3, 1) := dk_62 (dk_at dksX5_way_2 8 rfl rfl)
theorem dX5_way_57 : decode cX5_way 57 = .ok (.iload_n 3, 1) := dk_29 (dk_at dksX5_way_2 9 rfl rfl)
theorem dX5_way_58 : decode cX5_way 58 = .ok (.bipush 8, 2) := dk_16 8 (dk_at dksX5_way_2 10 rfl rfl)
theorem dX5_way_60 : decode cX5_way 60 = .ok (.if_icmp .ge 94, 3) := dk_162 0 94 (dk_at dksX5_way_2 12 rfl rfl)
theorem dX5_way_63 : decode cX5_way 63 = .ok (.iconst 0, 1) := dk_3 (dk_at dksX5_way_2 15 rfl rfl)
theorem dX5_way_64 : decode cX5_way 64 = .ok (.istore 4, 2) := dk_54 4 (dk_at dksX5_way_2 16 rfl rfl)
theorem dX5_way_66 : decode cX5_way 66 = .ok (.iload 4, 2) := dk_21 4 (dk_at dksX5_way_2 18 rfl rfl)
theorem dX5_way_68 : decode cX5_way 68 = .ok (.bipush 8, 2) := dk_16 8 (dk_at dksX5_way_2 20 rfl rfl)
theorem dX5_way_70 : decode cX5_way 70 = .ok (.if_icmp .ge 78, 3) := dk_162 0 78 (dk_at dksX5_way_3 0 rfl rfl)
theorem dX5_way_73 : decode cX5_way 73 = .ok (.iconst 0, 1) := dk_3 (dk_at dksX5_way_3 3 rfl rfl)
theorem dX5_way_74 : decode cX5_way 74 = .ok (.istore 5, 2) := dk_54 5 (dk_at dksX5_way_3 4 rfl rfl)
theorem dX5_way_76 : decode cX5_way 76 = .ok (.iload 5, 2) := dk_21 5 (dk_at dksX5_way_3 6 rfl rfl)
theorem dX5_way_78 : decode cX5_way 78 = .ok (.bipush 8, 2) := dk_16 8 (dk_at dksX5_way_3 8 rfl rfl)
theorem dX5_way_80 : decode cX5_way 80 = .ok (.if_icmp .ge 62, 3) := dk_162 0 62 (dk_at dksX5_way_3 10 rfl rfl)
theorem dX5_way_83 : decode cX5_way 83 = .ok (.aload_n 0, 1) := dk_42 (dk_at dksX5_way_3 13 rfl rfl)
theorem dX5_way_84 : decode cX5_way 84 = .ok (.getfield 33, 3) := dk_180 0 33 (dk_at dksX5_way_3 14 rfl rfl)
theorem dX5_way_87 : decode cX5_way 87 = .ok (.bipush 8, 2) := dk_16 8 (dk_at dksX5_way_3 17 rfl rfl)
theorem dX5_way_89 : decode cX5_way 89 = .ok (.iload 4, 2) := dk_21 4 (dk_at dksX5_way_3 19 rfl rfl)
theorem dX5_way_91 : decode cX5_way 91 = .ok (.iadd, 1) := dk_96 (dk_at dksX5_way_3 21 rfl rfl)
theorem dX5_way_92 : decode cX5_way 92 = .ok (.iaload, 1) := dk_46 (dk_at dksX5_way_3 22 rfl rfl)
theorem dX5_way_93 : decode cX5_way 93 = .ok (.iload 5, 2) := dk_21 5 (dk_at dksX5_way_4 0 rfl rfl)
theorem dX5_way_95 : decode cX5_way 95 = .ok (.invokestatic 223, 3) := dk_184 0 223 (dk_at dksX5_way_4 2 rfl rfl)
theorem dX5_way_98 : decode cX5_way 98 = .ok (.ifCond .eq 38, 3) := dk_153 0 38 (dk_at dksX5_way_4 5 rfl rfl)
theorem dX5_way_101 : decode cX5_way 101 = .ok (.aload_n 0, 1) := dk_42 (dk_at dksX5_way_4 8 rfl rfl)
theorem dX5_way_102 : decode cX5_way 102 = .ok (.getfield 50, 3) := dk_180 0 50 (dk_at dksX5_way_4 9 rfl rfl)
theorem dX5_way_105 : decode cX5_way 105 = .ok (.iload 4, 2) := dk_21 4 (dk_at dksX5_way_4 12 rfl rfl)
theorem dX5_way_107 : decode cX5_way 107 = .ok (.iaload, 1) := dk_46 (dk_at dksX5_way_4 14 rfl rfl)
theorem dX5_way_108 : decode cX5_way 108 = .ok (.iconst 1, 1) := dk_4 (dk_at dksX5_way_4 15 rfl rfl)
theorem dX5_way_109 : decode cX5_way 109 = .ok (.iadd, 1) := dk_96 (dk_at dksX5_way_4 16 rfl rfl)
theorem dX5_way_110 : decode cX5_way 110 = .ok (.aload_n 0, 1) := dk_42 (dk_at dksX5_way_4 17 rfl rfl)
theorem dX5_way_111 : decode cX5_way 111 = .ok (.getfield 50, 3) := dk_180 0 50 (dk_at dksX5_way_4 18 rfl rfl)
theorem dX5_way_114 : decode cX5_way 114 = .ok (.iload 5, 2) := dk_21 5 (dk_at dksX5_way_4 21 rfl rfl)
theorem dX5_way_116 : decode cX5_way 116 = .ok (.iaload, 1) := dk_46 (dk_at dksX5_way_4 23 rfl rfl)
theorem dX5_way_117 : decode cX5_way 117 = .ok (.if_icmp .ge 19, 3) := dk_162 0 19 (dk_at dksX5_way_5 0 rfl rfl)
theorem dX5_way_120 : decode cX5_way 120 = .ok (.aload_n 0, 1) := dk_42 (dk_at dksX5_way_5 3 rfl rfl)
theorem dX5_way_121 : decode cX5_way 121 = .ok (.getfield 50, 3) := dk_180 0 50 (dk_at dksX5_way_5 4 rfl rfl)
theorem dX5_way_124 : decode cX5_way 124 = .ok (.iload 5, 2) := dk_21 5 (dk_at dksX5_way_5 7 rfl rfl)
theorem dX5_way_126 : decode cX5_way 126 = .ok (.aload_n 0, 1) := dk_42 (dk_at dksX5_way_5 9 rfl rfl)
theorem dX5_way_127 : decode cX5_way 127 = .ok (.getfield 50, 3) := dk_180 0 50 (dk_at dksX5_way_5 10 rfl rfl)
theorem dX5_way_130 : decode cX5_way 130 = .ok (.iload 4, 2) := dk_21 4 (dk_at dksX5_way_5 13 rfl rfl)
theorem dX5_way_132 : decode cX5_way 132 = .ok (.iaload, 1) := dk_46 (dk_at dksX5_way_5 15 rfl rfl)
theorem dX5_way_133 : decode cX5_way 133 = .ok (.iconst 1, 1) := dk_4 (dk_at dksX5_way_5 16 rfl rfl)
theorem dX5_way_134 : decode cX5_way 134 = .ok (.iadd, 1) := dk_96 (dk_at dksX5_way_5 17 rfl rfl)
theorem dX5_way_135 : decode cX5_way 135 = .ok (.iastore, 1) := dk_79 (dk_at dksX5_way_5 18 rfl rfl)
theorem dX5_way_136 : decode cX5_way 136 = .ok (.iinc 5 1, 3) := dk_132 5 1 (dk_at dksX5_way_5 19 rfl rfl)
theorem dX5_way_139 : decode cX5_way 139 = .ok (.goto (-63), 3) := dk_167 255 193 (dk_at dksX5_way_6 0 rfl rfl)
theorem dX5_way_142 : decode cX5_way 142 = .ok (.iinc 4 1, 3) := dk_132 4 1 (dk_at dksX5_way_6 3 rfl rfl)
theorem dX5_way_145 : decode cX5_way 145 = .ok (.goto (-79), 3) := dk_167 255 177 (dk_at dksX5_way_6 6 rfl rfl)
theorem dX5_way_148 : decode cX5_way 148 = .ok (.iinc 3 1, 3) := dk_132 3 1 (dk_at dksX5_way_6 9 rfl rfl)
theorem dX5_way_151 : decode cX5_way 151 = .ok (.goto (-94), 3) := dk_167 255 162 (dk_at dksX5_way_6 12 rfl rfl)
theorem dX5_way_154 : decode cX5_way 154 = .ok (.aload_n 0, 1) := dk_42 (dk_at dksX5_way_6 15 rfl rfl)
theorem dX5_way_155 : decode cX5_way 155 = .ok (.getfield 50, 3) := dk_180 0 50 (dk_at dksX5_way_6 16 rfl rfl)
theorem dX5_way_158 : decode cX5_way 158 = .ok (.iload_n 2, 1) := dk_28 (dk_at dksX5_way_6 19 rfl rfl)
theorem dX5_way_159 : decode cX5_way 159 = .ok (.iaload, 1) := dk_46 (dk_at dksX5_way_6 20 rfl rfl)
theorem dX5_way_160 : decode cX5_way 160 = .ok (.sipush 1000, 3) := dk_17 3 232 (dk_at dksX5_way_6 21 rfl rfl)
theorem dX5_way_163 : decode cX5_way 163 = .ok (.if_icmp .ge 12, 3) := dk_162 0 12 (dk_at dksX5_way_7 0 rfl rfl)
theorem dX5_way_166 : decode cX5_way 166 = .ok (.aload_n 0, 1) := dk_42 (dk_at dksX5_way_7 3 rfl rfl)
theorem dX5_way_167 : decode cX5_way 167 = .ok (.getfield 50, 3) := dk_180 0 50 (dk_at dksX5_way_7 4 rfl rfl)
theorem dX5_way_170 : decode cX5_way 170 = .ok (.iload_n 2, 1) := dk_28 (dk_at dksX5_way_7 7 rfl rfl)
theorem dX5_way_171 : decode cX5_way 171 = .ok (.iaload, 1) := dk_46 (dk_at dksX5_way_7 8 rfl rfl)
theorem dX5_way_172 : decode cX5_way 172 = .ok (.goto 4, 3) := dk_167 0 4 (dk_at dksX5_way_7 9 rfl rfl)
theorem dX5_way_175 : decode cX5_way 175 = .ok (.iconst (-1), 1) := dk_2 (dk_at dksX5_way_7 12 rfl rfl)
theorem dX5_way_176 : decode cX5_way 176 = .ok (.ireturn, 1) := dk_172 (dk_at dksX5_way_7 13 rfl rfl)
abbrev cX5_isPlace : ByteArray := prog_26_method_30_code
def yX5_isPlace : MethodName := ⟨RX5, "isPlace", "(I)Z"⟩
def dkwX5_isPlace_0 : List UInt8 := [27, 3, 42, 180, 0, 33, 4, 46, 4, 100, 184, 0, 187, 172]
abbrev dktX5_isPlace_0 : List UInt8 := dkwX5_isPlace_0 ++ []
theorem dksX5_isPlace_0 : cX5_isPlace.data.toList.drop 0 = dktX5_isPlace_0 := by decide +kernel
theorem dX5_isPlace_0 : decode cX5_isPlace 0 = .ok (.iload_n 1, 1) := dk_27 (dk_at dksX5_isPlace_0 0 rfl rfl)
theorem dX5_isPlace_1 : decode cX5_isPlace 1 = .ok (.iconst 0, 1) := dk_3 (dk_at dksX5_isPlace_0 1 rfl rfl)
theorem dX5_isPlace_2 : decode cX5_isPlace 2 = .ok (.aload_n 0, 1) := dk_42 (dk_at dksX5_isPlace_0 2 rfl rfl)
theorem dX5_isPlace_3 : decode cX5_isPlace 3 = .ok (.getfield 33, 3) := dk_180 0 33 (dk_at dksX5_isPlace_0 3 rfl rfl)
theorem dX5_isPlace_6 : decode cX5_isPlace 6 = .ok (.iconst 1, 1) := dk_4 (dk_at dksX5_isPlace_0 6 rfl rfl)
theorem dX5_isPlace_7 : decode cX5_isPlace 7 = .ok (.iaload, 1) := dk_46 (dk_at dksX5_isPlace_0 7 rfl rfl)
theorem dX5_isPlace_8 : decode cX5_isPlace 8 = .ok (.iconst 1, 1) := dk_4 (dk_at dksX5_isPlace_0 8 rfl rfl)
theorem dX5_isPlace_9 : decode cX5_isPlace 9 = .ok (.isub, 1) := dk_100 (dk_at dksX5_isPlace_0 9 rfl rfl)
theorem dX5_isPlace_10 : decode cX5_isPlace 10 = .ok (.invokestatic 187, 3) := dk_184 0 187 (dk_at dksX5_isPlace_0 10 rfl rfl)
theorem dX5_isPlace_13 : decode cX5_isPlace 13 = .ok (.ireturn, 1) := dk_172 (dk_at dksX5_isPlace_0 13 rfl rfl)
abbrev cX5_frog : ByteArray := prog_26_method_38_code
def yX5_frog : MethodName := ⟨RX5, "frog", "(I)I"⟩
def dkwX5_frog_1 : List UInt8 := [180, 0, 33, 16, 16, 27, 96, 46, 167, 0, 4, 2, 172]
abbrev dktX5_frog_1 : List UInt8 := dkwX5_frog_1 ++ []
def dkwX5_frog_0 : List UInt8 := [42, 3, 181, 0, 1, 27, 3, 42, 180, 0, 33, 6, 46, 4, 100, 184, 0, 187, 153, 0, 15, 42]
abbrev dktX5_frog_0 : List UInt8 := dkwX5_frog_0 ++ dktX5_frog_1
theorem dksX5_frog_0 : cX5_frog.data.toList.drop 0 = dktX5_frog_0 := by decide +kernel
theorem dksX5_frog_1 : cX5_frog.data.toList.drop 22 = dktX5_frog_1 := dk_seg dksX5_frog_0 22 rfl rfl
theorem dX5_frog_0 : decode cX5_frog 0 = .ok (.aload_n 0, 1) := dk_42 (dk_at dksX5_frog_0 0 rfl rfl)
theorem dX5_frog_1 : decode cX5_frog 1 = .ok (.iconst 0, 1) := dk_3 (dk_at dksX5_frog_0 1 rfl rfl)
theorem dX5_frog_2 : decode cX5_frog 2 = .ok (.putfield 1, 3) := dk_181 0 1 (dk_at dksX5_frog_0 2 rfl rfl)
theorem dX5_frog_5 : decode cX5_frog 5 = .ok (.iload_n 1, 1) := dk_27 (dk_at dksX5_frog_0 5 rfl rfl)
theorem dX5_frog_6 : decode cX5_frog 6 = .ok (.iconst 0, 1) := dk_3 (dk_at dksX5_frog_0 6 rfl rfl)
theorem dX5_frog_7 : decode cX5_frog 7 = .ok (.aload_n 0, 1) := dk_42 (dk_at dksX5_frog_0 7 rfl rfl)
theorem dX5_frog_8 : decode cX5_frog 8 = .ok (.getfield 33, 3) := dk_180 0 33 (dk_at dksX5_frog_0 8 rfl rfl)
theorem dX5_frog_11 : decode cX5_frog 11 = .ok (.iconst 3, 1) := dk_6 (dk_at dksX5_frog_0 11 rfl rfl)
theorem dX5_frog_12 : decode cX5_frog 12 = .ok (.iaload, 1) := dk_46 (dk_at dksX5_frog_0 12 rfl rfl)
theorem dX5_frog_13 : decode cX5_frog 13 = .ok (.iconst 1, 1) := dk_4 (dk_at dksX5_frog_0 13 rfl rfl)
theorem dX5_frog_14 : decode cX5_frog 14 = .ok (.isub, 1) := dk_100 (dk_at dksX5_frog_0 14 rfl rfl)
theorem dX5_frog_15 : decode cX5_frog 15 = .ok (.invokestatic 187, 3) := dk_184 0 187 (dk_at dksX5_frog_0 15 rfl rfl)
theorem dX5_frog_18 : decode cX5_frog 18 = .ok (.ifCond .eq 15, 3) := dk_153 0 15 (dk_at dksX5_frog_0 18 rfl rfl)
theorem dX5_frog_21 : decode cX5_frog 21 = .ok (.aload_n 0, 1) := dk_42 (dk_at dksX5_frog_0 21 rfl rfl)
theorem dX5_frog_22 : decode cX5_frog 22 = .ok (.getfield 33, 3) := dk_180 0 33 (dk_at dksX5_frog_1 0 rfl rfl)
theorem dX5_frog_25 : decode cX5_frog 25 = .ok (.bipush 16, 2) := dk_16 16 (dk_at dksX5_frog_1 3 rfl rfl)
theorem dX5_frog_27 : decode cX5_frog 27 = .ok (.iload_n 1, 1) := dk_27 (dk_at dksX5_frog_1 5 rfl rfl)
theorem dX5_frog_28 : decode cX5_frog 28 = .ok (.iadd, 1) := dk_96 (dk_at dksX5_frog_1 6 rfl rfl)
theorem dX5_frog_29 : decode cX5_frog 29 = .ok (.iaload, 1) := dk_46 (dk_at dksX5_frog_1 7 rfl rfl)
theorem dX5_frog_30 : decode cX5_frog 30 = .ok (.goto 4, 3) := dk_167 0 4 (dk_at dksX5_frog_1 8 rfl rfl)
theorem dX5_frog_33 : decode cX5_frog 33 = .ok (.iconst (-1), 1) := dk_2 (dk_at dksX5_frog_1 11 rfl rfl)
theorem dX5_frog_34 : decode cX5_frog 34 = .ok (.ireturn, 1) := dk_172 (dk_at dksX5_frog_1 12 rfl rfl)
abbrev cX5_now : ByteArray := prog_26_method_39_code
def yX5_now : MethodName := ⟨RX5, "now", "(I)I"⟩
def dkwX5_now_6 : List UInt8 := [16, 123, 46, 172, 28, 172, 29, 172, 21, 4, 172, 2, 172]
abbrev dktX5_now_6 : List UInt8 := dkwX5_now_6 ++ []
def dkwX5_now_5 : List UInt8 := [42, 182, 1, 4, 172, 42, 180, 0, 33, 16, 106, 46, 42, 180, 0, 33, 3, 46, 112, 172, 42, 180, 0, 33]
abbrev dktX5_now_5 : List UInt8 := dkwX5_now_5 ++ dktX5_now_6
def dkwX5_now_4 : List UInt8 := [170, 0, 0, 0, 0, 73, 0, 0, 0, 0, 0, 0, 0, 5, 0, 0, 0, 38, 0, 0, 0, 43, 0, 0, 0, 58, 0, 0, 0, 66, 0, 0, 0, 68, 0, 0, 0, 70]
abbrev dktX5_now_4 : List UInt8 := dkwX5_now_4 ++ dktX5_now_5
def dkwX5_now_3 : List UInt8 := [160, 0, 7, 4, 167, 0, 4, 3, 96, 54, 4, 132, 5, 1, 167, 255, 185, 27]
abbrev dktX5_now_3 : List UInt8 := dkwX5_now_3 ++ dktX5_now_4
def dkwX5_now_2 : List UInt8 := [29, 42, 180, 0, 33, 17, 0, 132, 21, 5, 96, 46, 96, 62, 21, 4, 42, 21, 5, 3, 182, 1, 1, 7]
abbrev dktX5_now_2 : List UInt8 := dkwX5_now_2 ++ dktX5_now_3
def dkwX5_now_1 : List UInt8 := [162, 0, 65, 28, 42, 180, 0, 33, 16, 124, 21, 5, 96, 46, 158, 0, 7, 4, 167, 0, 4, 3, 96, 61]
abbrev dktX5_now_1 : List UInt8 := dkwX5_now_1 ++ dktX5_now_2
def dkwX5_now_0 : List UInt8 := [42, 3, 181, 0, 1, 3, 61, 3, 62, 3, 54, 4, 3, 54, 5, 21, 5, 42, 180, 0, 33, 16, 6, 46]
abbrev dktX5_now_0 : List UInt8 := dkwX5_now_0 ++ dktX5_now_1
theorem dksX5_now_0 : cX5_now.data.toList.drop 0 = dktX5_now_0 := by decide +kernel
theorem dksX5_now_1 : cX5_now.data.toList.drop 24 = dktX5_now_1 := dk_seg dksX5_now_0 24 rfl rfl
theorem dksX5_now_2 : cX5_now.data.toList.drop 48 = dktX5_now_2 := dk_seg dksX5_now_1 24 rfl rfl
theorem dksX5_now_3 : cX5_now.data.toList.drop 72 = dktX5_now_3 := dk_seg dksX5_now_2 24 rfl rfl
theorem dksX5_now_4 : cX5_now.data.toList.drop 90 = dktX5_now_4 := dk_seg dksX5_now_3 18 rfl rfl
theorem dksX5_now_5 : cX5_now.data.toList.drop 128 = dktX5_now_5 := dk_seg dksX5_now_4 38 rfl rfl
theorem dksX5_now_6 : cX5_now.data.toList.drop 152 = dktX5_now_6 := dk_seg dksX5_now_5 24 rfl rfl
theorem dX5_now_0 : decode cX5_now 0 = .ok (.aload_n 0, 1) := dk_42 (dk_at dksX5_now_0 0 rfl rfl)
theorem dX5_now_1 : decode cX5_now 1 = .ok (.iconst 0, 1) := dk_3 (dk_at dksX5_now_0 1 rfl rfl)
theorem dX5_now_2 : decode cX5_now 2 = .ok (.putfield 1, 3) := dk_181 0 1 (dk_at dksX5_now_0 2 rfl rfl)
theorem dX5_now_5 : decode cX5_now 5 = .ok (.iconst 0, 1) := dk_3 (dk_at dksX5_now_0 5 rfl rfl)
theorem dX5_now_6 : decode cX5_now 6 = .ok (.istore_n 2, 1) := dk_61 (dk_at dksX5_now_0 6 rfl rfl)
theorem dX5_now_7 : decode cX5_now 7 = .ok (.iconst 0, 1) := dk_3 (dk_at dksX5_now_0 7 rfl rfl)
theorem dX5_now_8 : decode cX5_now 8 = .ok (.istore_n 3, 1) := dk_62 (dk_at dksX5_now_0 8 rfl rfl)
theorem dX5_now_9 : decode cX5_now 9 = .ok (.iconst 0, 1) := dk_3 (dk_at dksX5_now_0 9 rfl rfl)
theorem dX5_now_10 : decode cX5_now 10 = .ok (.istore 4, 2) := dk_54 4 (dk_at dksX5_now_0 10 rfl rfl)
theorem dX5_now_12 : decode cX5_now 12 = .ok (.iconst 0, 1) := dk_3 (dk_at dksX5_now_0 12 rfl rfl)
theorem dX5_now_13 : decode cX5_now 13 = .ok (.istore 5, 2) := dk_54 5 (dk_at dksX5_now_0 13 rfl rfl)
theorem dX5_now_15 : decode cX5_now 15 = .ok (.iload 5, 2) := dk_21 5 (dk_at dksX5_now_0 15 rfl rfl)
theorem dX5_now_17 : decode cX5_now 17 = .ok (.aload_n 0, 1) := dk_42 (dk_at dksX5_now_0 17 rfl rfl)
theorem dX5_now_18 : decode cX5_now 18 = .ok (.getfield 33, 3) := dk_180 0 33 (dk_at dksX5_now_0 18 rfl rfl)
theorem dX5_now_21 : decode cX5_now 21 = .ok (.bipush 6, 2) := dk_16 6 (dk_at dksX5_now_0 21 rfl rfl)
theorem dX5_now_23 : decode cX5_now 23 = .ok (.iaload, 1) := dk_46 (dk_at dksX5_now_0 23 rfl rfl)
theorem dX5_now_24 : decode cX5_now 24 = .ok (.if_icmp .ge 65, 3) := dk_162 0 65 (dk_at dksX5_now_1 0 rfl rfl)
theorem dX5_now_27 : decode cX5_now 27 = .ok (.iload_n 2, 1) := dk_28 (dk_at dksX5_now_1 3 rfl rfl)
theorem dX5_now_28 : decode cX5_now 28 = .ok (.aload_n 0, 1) := dk_42 (dk_at dksX5_now_1 4 rfl rfl)
theorem dX5_now_29 : decode cX5_now 29 = .ok (.getfield 33, 3) := dk_180 0 33 (dk_at dksX5_now_1 5 rfl rfl)
theorem dX5_now_32 : decode cX5_now 32 = .ok (.bipush 124, 2) := dk_16 124 (dk_at dksX5_now_1 8 rfl rfl)
theorem dX5_now_34 : decode cX5_now 34 = .ok (.iload 5, 2) := dk_21 5 (dk_at dksX5_now_1 10 rfl rfl)
theorem dX5_now_36 : decode cX5_now 36 = .ok (.iadd, 1) := dk_96 (dk_at dksX5_now_1 12 rfl rfl)
theorem dX5_now_37 : decode cX5_now 37 = .ok (.iaload, 1) := dk_46 (dk_at dksX5_now_1 13 rfl rfl)
theorem dX5_now_38 : decode cX5_now 38 = .ok (.ifCond .le 7, 3) := dk_158 0 7 (dk_at dksX5_now_1 14 rfl rfl)
theorem dX5_now_41 : decode cX5_now 41 = .ok (.iconst 1, 1) := dk_4 (dk_at dksX5_now_1 17 rfl rfl)
theorem dX5_now_42 : decode cX5_now 42 = .ok (.goto 4, 3) := dk_167 0 4 (dk_at dksX5_now_1 18 rfl rfl)
theorem dX5_now_45 : decode cX5_now 45 = .ok (.iconst 0, 1) := dk_3 (dk_at dksX5_now_1 21 rfl rfl)
theorem dX5_now_46 : decode cX5_now 46 = .ok (.iadd, 1) := dk_96 (dk_at dksX5_now_1 22 rfl rfl)
theorem dX5_now_47 : decode cX5_now 47 = .ok (.istore_n 2, 1) := dk_61 (dk_at dksX5_now_1 23 rfl rfl)
theorem dX5_now_48 : decode cX5_now 48 = .ok (.iload_n 3, 1) := dk_29 (dk_at dksX5_now_2 0 rfl rfl)
theorem dX5_now_49 : decode cX5_now 49 = .ok (.aload_n 0, 1) := dk_42 (dk_at dksX5_now_2 1 rfl rfl)
theorem dX5_now_50 : decode cX5_now 50 = .ok (.getfield 33, 3) := dk_180 0 33 (dk_at dksX5_now_2 2 rfl rfl)
theorem dX5_now_53 : decode cX5_now 53 = .ok (.sipush 132, 3) := dk_17 0 132 (dk_at dksX5_now_2 5 rfl rfl)
theorem dX5_now_56 : decode cX5_now 56 = .ok (.iload 5, 2) := dk_21 5 (dk_at dksX5_now_2 8 rfl rfl)
theorem dX5_now_58 : decode cX5_now 58 = .ok (.iadd, 1) := dk_96 (dk_at dksX5_now_2 10 rfl rfl)
theorem dX5_now_59 : decode cX5_now 59 = .ok (.iaload, 1) := dk_46 (dk_at dksX5_now_2 11 rfl rfl)
theorem dX5_now_60 : decode cX5_now 60 = .ok (.iadd, 1) := dk_96 (dk_at dksX5_now_2 12 rfl rfl)
theorem dX5_now_61 : decode cX5_now 61 = .ok (.istore_n 3, 1) := dk_62 (dk_at dksX5_now_2 13 rfl rfl)
theorem dX5_now_62 : decode cX5_now 62 = .ok (.iload 4, 2) := dk_21 4 (dk_at dksX5_now_2 14 rfl rfl)
theorem dX5_now_64 : decode cX5_now 64 = .ok (.aload_n 0, 1) := dk_42 (dk_at dksX5_now_2 16 rfl rfl)
theorem dX5_now_65 : decode cX5_now 65 = .ok (.iload 5, 2) := dk_21 5 (dk_at dksX5_now_2 17 rfl rfl)
theorem dX5_now_67 : decode cX5_now 67 = .ok (.iconst 0, 1) := dk_3 (dk_at dksX5_now_2 19 rfl rfl)
theorem dX5_now_68 : decode cX5_now 68 = .ok (.invokevirtual 257, 3) := dk_182 1 1 (dk_at dksX5_now_2 20 rfl rfl)
theorem dX5_now_71 : decode cX5_now 71 = .ok (.iconst 4, 1) := dk_7 (dk_at dksX5_now_2 23 rfl rfl)
theorem dX5_now_72 : decode cX5_now 72 = .ok (.if_icmp .ne 7, 3) := dk_160 0 7 (dk_at dksX5_now_3 0 rfl rfl)
theorem dX5_now_75 : decode cX5_now 75 = .ok (.iconst 1, 1) := dk_4 (dk_at dksX5_now_3 3 rfl rfl)
theorem dX5_now_76 : decode cX5_now 76 = .ok (.goto 4, 3) := dk_167 0 4 (dk_at dksX5_now_3 4 rfl rfl)
theorem dX5_now_79 : decode cX5_now 79 = .ok (.iconst 0, 1) := dk_3 (dk_at dksX5_now_3 7 rfl rfl)
theorem dX5_now_80 : decode cX5_now 80 = .ok (.iadd, 1) := dk_96 (dk_at dksX5_now_3 8 rfl rfl)
theorem dX5_now_81 : decode cX5_now 81 = .ok (.istore 4, 2) := dk_54 4 (dk_at dksX5_now_3 9 rfl rfl)
theorem dX5_now_83 : decode cX5_now 83 = .ok (.iinc 5 1, 3) := dk_132 5 1 (dk_at dksX5_now_3 11 rfl rfl)
theorem dX5_now_86 : decode cX5_now 86 = .ok (.goto (-71), 3) := dk_167 255 185 (dk_at dksX5_now_3 14 rfl rfl)
theorem dX5_now_89 : decode cX5_now 89 = .ok (.iload_n 1, 1) := dk_27 (dk_at dksX5_now_3 17 rfl rfl)
theorem dX5_now_90 : decode cX5_now 90 = .ok (.tableswitch 73 0 5 #[38, 43, 58, 66, 68, 70], 38) := by decide +kernel
theorem dX5_now_128 : decode cX5_now 128 = .ok (.aload_n 0, 1) := dk_42 (dk_at dksX5_now_5 0 rfl rfl)
theorem dX5_now_129 : decode cX5_now 129 = .ok (.invokevirtual 260, 3) := dk_182 1 4 (dk_at dksX5_now_5 1 rfl rfl)
theorem dX5_now_132 : decode cX5_now 132 = .ok (.ireturn, 1) := dk_172 (dk_at dksX5_now_5 4 rfl rfl)
theorem dX5_now_133 : decode cX5_now 133 = .ok (.aload_n 0, 1) := dk_42 (dk_at dksX5_now_5 5 rfl rfl)
theorem dX5_now_134 : decode cX5_now 134 = .ok (.getfield 33, 3) := dk_180 0 33 (dk_at dksX5_now_5 6 rfl rfl)
theorem dX5_now_137 : decode cX5_now 137 = .ok (.bipush 106, 2) := dk_16 106 (dk_at dksX5_now_5 9 rfl rfl)
theorem dX5_now_139 : decode cX5_now 139 = .ok (.iaload, 1) := dk_46 (dk_at dksX5_now_5 11 rfl rfl)
theorem dX5_now_140 : decode cX5_now 140 = .ok (.aload_n 0, 1) := dk_42 (dk_at dksX5_now_5 12 rfl rfl)
theorem dX5_now_141 : decode cX5_now 141 = .ok (.getfield 33, 3) := dk_180 0 33 (dk_at dksX5_now_5 13 rfl rfl)
theorem dX5_now_144 : decode cX5_now 144 = .ok (.iconst 0, 1) := dk_3 (dk_at dksX5_now_5 16 rfl rfl)
theorem dX5_now_145 : decode cX5_now 145 = .ok (.iaload, 1) := dk_46 (dk_at dksX5_now_5 17 rfl rfl)
theorem dX5_now_146 : decode cX5_now 146 = .ok (.irem, 1) := dk_112 (dk_at dksX5_now_5 18 rfl rfl)
theorem dX5_now_147 : decode cX5_now 147 = .ok (.ireturn, 1) := dk_172 (dk_at dksX5_now_5 19 rfl rfl)
theorem dX5_now_148 : decode cX5_now 148 = .ok (.aload_n 0, 1) := dk_42 (dk_at dksX5_now_5 20 rfl rfl)
theorem dX5_now_149 : decode cX5_now 149 = .ok (.getfield 33, 3) := dk_180 0 33 (dk_at dksX5_now_5 21 rfl rfl)
theorem dX5_now_152 : decode cX5_now 152 = .ok (.bipush 123, 2) := dk_16 123 (dk_at dksX5_now_6 0 rfl rfl)
theorem dX5_now_154 : decode cX5_now 154 = .ok (.iaload, 1) := dk_46 (dk_at dksX5_now_6 2 rfl rfl)
theorem dX5_now_155 : decode cX5_now 155 = .ok (.ireturn, 1) := dk_172 (dk_at dksX5_now_6 3 rfl rfl)
theorem dX5_now_156 : decode cX5_now 156 = .ok (.iload_n 2, 1) := dk_28 (dk_at dksX5_now_6 4 rfl rfl)
theorem dX5_now_157 : decode cX5_now 157 = .ok (.ireturn, 1) := dk_172 (dk_at dksX5_now_6 5 rfl rfl)
theorem dX5_now_158 : decode cX5_now 158 = .ok (.iload_n 3, 1) := dk_29 (dk_at dksX5_now_6 6 rfl rfl)
theorem dX5_now_159 : decode cX5_now 159 = .ok (.ireturn, 1) := dk_172 (dk_at dksX5_now_6 7 rfl rfl)
theorem dX5_now_160 : decode cX5_now 160 = .ok (.iload 4, 2) := dk_21 4 (dk_at dksX5_now_6 8 rfl rfl)
theorem dX5_now_162 : decode cX5_now 162 = .ok (.ireturn, 1) := dk_172 (dk_at dksX5_now_6 10 rfl rfl)
theorem dX5_now_163 : decode cX5_now 163 = .ok (.iconst (-1), 1) := dk_2 (dk_at dksX5_now_6 11 rfl rfl)
theorem dX5_now_164 : decode cX5_now 164 = .ok (.ireturn, 1) := dk_172 (dk_at dksX5_now_6 12 rfl rfl)
abbrev cX5_statusOf : ByteArray := prog_26_method_64_code
def yX5_statusOf : MethodName := ⟨RX5, "statusOf", "(II)I"⟩
def dkwX5_statusOf_3 : List UInt8 := [29, 182, 1, 55, 153, 0, 7, 6, 167, 0, 4, 4, 172]
abbrev dktX5_statusOf_3 : List UInt8 := dkwX5_statusOf_3 ++ []
def dkwX5_statusOf_2 : List UInt8 := [16, 20, 160, 0, 5, 4, 172, 42, 27, 28, 29, 182, 1, 52, 153, 0, 7, 5, 167, 0, 18, 42, 27, 28]
abbrev dktX5_statusOf_2 : List UInt8 := dkwX5_statusOf_2 ++ dktX5_statusOf_3
def dkwX5_statusOf_1 : List UInt8 := [7, 172, 42, 27, 28, 182, 1, 49, 62, 42, 180, 0, 33, 16, 74, 27, 96, 46, 4, 159, 0, 9, 29]
abbrev dktX5_statusOf_1 : List UInt8 := dkwX5_statusOf_1 ++ dktX5_statusOf_2
def dkwX5_statusOf_0 : List UInt8 := [42, 180, 0, 33, 17, 0, 132, 27, 96, 46, 154, 0, 5, 3, 172, 42, 27, 28, 182, 1, 58, 155, 0, 5]
abbrev dktX5_statusOf_0 : List UInt8 := dkwX5_statusOf_0 ++ dktX5_statusOf_1
theorem dksX5_statusOf_0 : cX5_statusOf.data.toList.drop 0 = dktX5_statusOf_0 := by decide +kernel
theorem dksX5_statusOf_1 : cX5_statusOf.data.toList.drop 24 = dktX5_statusOf_1 := dk_seg dksX5_statusOf_0 24 rfl rfl
theorem dksX5_statusOf_2 : cX5_statusOf.data.toList.drop 47 = dktX5_statusOf_2 := dk_seg dksX5_statusOf_1 23 rfl rfl
theorem dksX5_statusOf_3 : cX5_statusOf.data.toList.drop 71 = dktX5_statusOf_3 := dk_seg dksX5_statusOf_2 24 rfl rfl
theorem dX5_statusOf_0 : decode cX5_statusOf 0 = .ok (.aload_n 0, 1) := dk_42 (dk_at dksX5_statusOf_0 0 rfl rfl)
theorem dX5_statusOf_1 : decode cX5_statusOf 1 = .ok (.getfield 33, 3) := dk_180 0 33 (dk_at dksX5_statusOf_0 1 rfl rfl)
theorem dX5_statusOf_4 : decode cX5_statusOf 4 = .ok (.sipush 132, 3) := dk_17 0 132 (dk_at dksX5_statusOf_0 4 rfl rfl)
theorem dX5_statusOf_7 : decode cX5_statusOf 7 = .ok (.iload_n 1, 1) := dk_27 (dk_at dksX5_statusOf_0 7 rfl rfl)
theorem dX5_statusOf_8 : decode cX5_statusOf 8 = .ok (.iadd, 1) := dk_96 (dk_at dksX5_statusOf_0 8 rfl rfl)
theorem dX5_statusOf_9 : decode cX5_statusOf 9 = .ok (.iaload, 1) := dk_46 (dk_at dksX5_statusOf_0 9 rfl rfl)
theorem dX5_statusOf_10 : decode cX5_statusOf 10 = .ok (.ifCond .ne 5, 3) := dk_154 0 5 (dk_at dksX5_statusOf_0 10 rfl rfl)
theorem dX5_statusOf_13 : decode cX5_statusOf 13 = .ok (.iconst 0, 1) := dk_3 (dk_at dksX5_statusOf_0 13 rfl rfl)
theorem dX5_statusOf_14 : decode cX5_statusOf 14 = .ok (.ireturn, 1) := dk_172 (dk_at dksX5_statusOf_0 14 rfl rfl)
theorem dX5_statusOf_15 : decode cX5_statusOf 15 = .ok (.aload_n 0, 1) := dk_42 (dk_at dksX5_statusOf_0 15 rfl rfl)
theorem dX5_statusOf_16 : decode cX5_statusOf 16 = .ok (.iload_n 1, 1) := dk_27 (dk_at dksX5_statusOf_0 16 rfl rfl)
theorem dX5_statusOf_17 : decode cX5_statusOf 17 = .ok (.iload_n 2, 1) := dk_28 (dk_at dksX5_statusOf_0 17 rfl rfl)
theorem dX5_statusOf_18 : decode cX5_statusOf 18 = .ok (.invokevirtual 314, 3) := dk_182 1 58 (dk_at dksX5_statusOf_0 18 rfl rfl)
theorem dX5_statusOf_21 : decode cX5_statusOf 21 = .ok (.ifCond .lt 5, 3) := dk_155 0 5 (dk_at dksX5_statusOf_0 21 rfl rfl)
theorem dX5_statusOf_24 : decode cX5_statusOf 24 = .ok (.iconst 4, 1) := dk_7 (dk_at dksX5_statusOf_1 0 rfl rfl)
theorem dX5_statusOf_25 : decode cX5_statusOf 25 = .ok (.ireturn, 1) := dk_172 (dk_at dksX5_statusOf_1 1 rfl rfl)
theorem dX5_statusOf_26 : decode cX5_statusOf 26 = .ok (.aload_n 0, 1) := dk_42 (dk_at dksX5_statusOf_1 2 rfl rfl)
theorem dX5_statusOf_27 : decode cX5_statusOf 27 = .ok (.iload_n 1, 1) := dk_27 (dk_at dksX5_statusOf_1 3 rfl rfl)
theorem dX5_statusOf_28 : decode cX5_statusOf 28 = .ok (.iload_n 2, 1) := dk_28 (dk_at dksX5_statusOf_1 4 rfl rfl)
theorem dX5_statusOf_29 : decode cX5_statusOf 29 = .ok (.invokevirtual 305, 3) := dk_182 1 49 (dk_at dksX5_statusOf_1 5 rfl rfl)
theorem dX5_statusOf_32 : decode cX5_statusOf 32 = .ok (.istore_n 3, 1) := dk_62 (dk_at dksX5_statusOf_1 8 rfl rfl)
theorem dX5_statusOf_33 : decode cX5_statusOf 33 = .ok (.aload_n 0, 1) := dk_42 (dk_at dksX5_statusOf_1 9 rfl rfl)
theorem dX5_statusOf_34 : decode cX5_statusOf 34 = .ok (.getfield 33, 3) := dk_180 0 33 (dk_at dksX5_statusOf_1 10 rfl rfl)
theorem dX5_statusOf_37 : decode cX5_statusOf 37 = .ok (.bipush 74, 2) := dk_16 74 (dk_at dksX5_statusOf_1 13 rfl rfl)
theorem dX5_statusOf_39 : decode cX5_statusOf 39 = .ok (.iload_n 1, 1) := dk_27 (dk_at dksX5_statusOf_1 15 rfl rfl)
theorem dX5_statusOf_40 : decode cX5_statusOf 40 = .ok (.iadd, 1) := dk_96 (dk_at dksX5_statusOf_1 16 rfl rfl)
theorem dX5_statusOf_41 : decode cX5_statusOf 41 = .ok (.iaload, 1) := dk_46 (dk_at dksX5_statusOf_1 17 rfl rfl)
theorem dX5_statusOf_42 : decode cX5_statusOf 42 = .ok (.iconst 1, 1) := dk_4 (dk_at dksX5_statusOf_1 18 rfl rfl)
theorem dX5_statusOf_43 : decode cX5_statusOf 43 = .ok (.if_icmp .eq 9, 3) := dk_159 0 9 (dk_at dksX5_statusOf_1 19 rfl rfl)
theorem dX5_statusOf_46 : decode cX5_statusOf 46 = .ok (.iload_n 3, 1) := dk_29 (dk_at dksX5_statusOf_1 22 rfl rfl)
theorem dX5_statusOf_47 : decode cX5_statusOf 47 = .ok (.bipush 20, 2) := dk_16 20 (dk_at dksX5_statusOf_2 0 rfl rfl)
theorem dX5_statusOf_49 : decode cX5_statusOf 49 = .ok (.if_icmp .ne 5, 3) := dk_160 0 5 (dk_at dksX5_statusOf_2 2 rfl rfl)
theorem dX5_statusOf_52 : decode cX5_statusOf 52 = .ok (.iconst 1, 1) := dk_4 (dk_at dksX5_statusOf_2 5 rfl rfl)
theorem dX5_statusOf_53 : decode cX5_statusOf 53 = .ok (.ireturn, 1) := dk_172 (dk_at dksX5_statusOf_2 6 rfl rfl)
theorem dX5_statusOf_54 : decode cX5_statusOf 54 = .ok (.aload_n 0, 1) := dk_42 (dk_at dksX5_statusOf_2 7 rfl rfl)
theorem dX5_statusOf_55 : decode cX5_statusOf 55 = .ok (.iload_n 1, 1) := dk_27 (dk_at dksX5_statusOf_2 8 rfl rfl)
theorem dX5_statusOf_56 : decode cX5_statusOf 56 = .ok (.iload_n 2, 1) := dk_28 (dk_at dksX5_statusOf_2 9 rfl rfl)
theorem dX5_statusOf_57 : decode cX5_statusOf 57 = .ok (.iload_n 3, 1) := dk_29 (dk_at dksX5_statusOf_2 10 rfl rfl)
theorem dX5_statusOf_58 : decode cX5_statusOf 58 = .ok (.invokevirtual 308, 3) := dk_182 1 52 (dk_at dksX5_statusOf_2 11 rfl rfl)
theorem dX5_statusOf_61 : decode cX5_statusOf 61 = .ok (.ifCond .eq 7, 3) := dk_153 0 7 (dk_at dksX5_statusOf_2 14 rfl rfl)
theorem dX5_statusOf_64 : decode cX5_statusOf 64 = .ok (.iconst 2, 1) := dk_5 (dk_at dksX5_statusOf_2 17 rfl rfl)
theorem dX5_statusOf_65 : decode cX5_statusOf 65 = .ok (.goto 18, 3) := dk_167 0 18 (dk_at dksX5_statusOf_2 18 rfl rfl)
theorem dX5_statusOf_68 : decode cX5_statusOf 68 = .ok (.aload_n 0, 1) := dk_42 (dk_at dksX5_statusOf_2 21 rfl rfl)
theorem dX5_statusOf_69 : decode cX5_statusOf 69 = .ok (.iload_n 1, 1) := dk_27 (dk_at dksX5_statusOf_2 22 rfl rfl)
theorem dX5_statusOf_70 : decode cX5_statusOf 70 = .ok (.iload_n 2, 1) := dk_28 (dk_at dksX5_statusOf_2 23 rfl rfl)
theorem dX5_statusOf_71 : decode cX5_statusOf 71 = .ok (.iload_n 3, 1) := dk_29 (dk_at dksX5_statusOf_3 0 rfl rfl)
theorem dX5_statusOf_72 : decode cX5_statusOf 72 = .ok (.invokevirtual 311, 3) := dk_182 1 55 (dk_at dksX5_statusOf_3 1 rfl rfl)
theorem dX5_statusOf_75 : decode cX5_statusOf 75 = .ok (.ifCond .eq 7, 3) := dk_153 0 7 (dk_at dksX5_statusOf_3 4 rfl rfl)
theorem dX5_statusOf_78 : decode cX5_statusOf 78 = .ok (.iconst 3, 1) := dk_6 (dk_at dksX5_statusOf_3 7 rfl rfl)
theorem dX5_statusOf_79 : decode cX5_statusOf 79 = .ok (.goto 4, 3) := dk_167 0 4 (dk_at dksX5_statusOf_3 8 rfl rfl)
theorem dX5_statusOf_82 : decode cX5_statusOf 82 = .ok (.iconst 1, 1) := dk_4 (dk_at dksX5_statusOf_3 11 rfl rfl)
theorem dX5_statusOf_83 : decode cX5_statusOf 83 = .ok (.ireturn, 1) := dk_172 (dk_at dksX5_statusOf_3 12 rfl rfl)
abbrev cX5_brokenOf : ByteArray := prog_26_method_63_code
def yX5_brokenOf : MethodName := ⟨RX5, "brokenOf", "(II)I"⟩
def dkwX5_brokenOf_4 : List UInt8 := [21, 4, 182, 1, 55, 154, 0, 6, 21, 4, 172, 132, 4, 1, 167, 255, 174, 2, 172]
abbrev dktX5_brokenOf_4 : List UInt8 := dkwX5_brokenOf_4 ++ []
def dkwX5_brokenOf_3 : List UInt8 := [182, 1, 42, 96, 163, 0, 5, 2, 172, 42, 27, 28, 21, 4, 182, 1, 52, 154, 0, 17, 42, 27, 28]
abbrev dktX5_brokenOf_3 : List UInt8 := dkwX5_brokenOf_3 ++ dktX5_brokenOf_4
def dkwX5_brokenOf_2 : List UInt8 := [4, 160, 0, 62, 42, 180, 0, 33, 16, 106, 46, 21, 4, 42, 180, 0, 33, 3, 46, 104, 42, 27, 28]
abbrev dktX5_brokenOf_2 : List UInt8 := dkwX5_brokenOf_2 ++ dktX5_brokenOf_3
def dkwX5_brokenOf_1 : List UInt8 := [54, 4, 21, 4, 16, 20, 162, 0, 81, 21, 4, 29, 159, 0, 16, 42, 180, 0, 33, 16, 74, 27, 96, 46]
abbrev dktX5_brokenOf_1 : List UInt8 := dkwX5_brokenOf_1 ++ dktX5_brokenOf_2
def dkwX5_brokenOf_0 : List UInt8 := [42, 180, 0, 33, 17, 0, 132, 27, 96, 46, 154, 0, 5, 2, 172, 42, 27, 28, 182, 1, 49, 62, 29]
abbrev dktX5_brokenOf_0 : List UInt8 := dkwX5_brokenOf_0 ++ dktX5_brokenOf_1
theorem dksX5_brokenOf_0 : cX5_brokenOf.data.toList.drop 0 = dktX5_brokenOf_0 := by decide +kernel
theorem dksX5_brokenOf_1 : cX5_brokenOf.data.toList.drop 23 = dktX5_brokenOf_1 := dk_seg dksX5_brokenOf_0 23 rfl rfl
theorem dksX5_brokenOf_2 : cX5_brokenOf.data.toList.drop 47 = dktX5_brokenOf_2 := dk_seg dksX5_brokenOf_1 24 rfl rfl
theorem dksX5_brokenOf_3 : cX5_brokenOf.data.toList.drop 70 = dktX5_brokenOf_3 := dk_seg dksX5_brokenOf_2 23 rfl rfl
theorem dksX5_brokenOf_4 : cX5_brokenOf.data.toList.drop 93 = dktX5_brokenOf_4 := dk_seg dksX5_brokenOf_3 23 rfl rfl
theorem dX5_brokenOf_0 : decode cX5_brokenOf 0 = .ok (.aload_n 0, 1) := dk_42 (dk_at dksX5_brokenOf_0 0 rfl rfl)
theorem dX5_brokenOf_1 : decode cX5_brokenOf 1 = .ok (.getfield 33, 3) := dk_180 0 33 (dk_at dksX5_brokenOf_0 1 rfl rfl)
theorem dX5_brokenOf_4 : decode cX5_brokenOf 4 = .ok (.sipush 132, 3) := dk_17 0 132 (dk_at dksX5_brokenOf_0 4 rfl rfl)
theorem dX5_brokenOf_7 : decode cX5_brokenOf 7 = .ok (.iload_n 1, 1) := dk_27 (dk_at dksX5_brokenOf_0 7 rfl rfl)
theorem dX5_brokenOf_8 : decode cX5_brokenOf 8 = .ok (.iadd, 1) := dk_96 (dk_at dksX5_brokenOf_0 8 rfl rfl)
theorem dX5_brokenOf_9 : decode cX5_brokenOf 9 = .ok (.iaload, 1) := dk_46 (dk_at dksX5_brokenOf_0 9 rfl rfl)
theorem dX5_brokenOf_10 : decode cX5_brokenOf 10 = .ok (.ifCond .ne 5, 3) := dk_154 0 5 (dk_at dksX5_brokenOf_0 10 rfl rfl)
theorem dX5_brokenOf_13 : decode cX5_brokenOf 13 = .ok (.iconst (-1), 1) := dk_2 (dk_at dksX5_brokenOf_0 13 rfl rfl)
theorem dX5_brokenOf_14 : decode cX5_brokenOf 14 = .ok (.ireturn, 1) := dk_172 (dk_at dksX5_brokenOf_0 14 rfl rfl)
theorem dX5_brokenOf_15 : decode cX5_brokenOf 15 = .ok (.aload_n 0, 1) := dk_42 (dk_at dksX5_brokenOf_0 15 rfl rfl)
theorem dX5_brokenOf_16 : decode cX5_brokenOf 16 = .ok (.iload_n 1, 1) := dk_27 (dk_at dksX5_brokenOf_0 16 rfl rfl)
theorem dX5_brokenOf_17 : decode cX5_brokenOf 17 = .ok (.iload_n 2, 1) := dk_28 (dk_at dksX5_brokenOf_0 17 rfl rfl)
theorem dX5_brokenOf_18 : decode cX5_brokenOf 18 = .ok (.invokevirtual 305, 3) := dk_182 1 49 (dk_at dksX5_brokenOf_0 18 rfl rfl)
theorem dX5_brokenOf_21 : decode cX5_brokenOf 21 = .ok (.istore_n 3, 1) := dk_62 (dk_at dksX5_brokenOf_0 21 rfl rfl)
theorem dX5_brokenOf_22 : decode cX5_brokenOf 22 = .ok (.iload_n 3, 1) := dk_29 (dk_at dksX5_brokenOf_0 22 rfl rfl)
theorem dX5_brokenOf_23 : decode cX5_brokenOf 23 = .ok (.istore 4, 2) := dk_54 4 (dk_at dksX5_brokenOf_1 0 rfl rfl)
theorem dX5_brokenOf_25 : decode cX5_brokenOf 25 = .ok (.iload 4, 2) := dk_21 4 (dk_at dksX5_brokenOf_1 2 rfl rfl)
theorem dX5_brokenOf_27 : decode cX5_brokenOf 27 = .ok (.bipush 20, 2) := dk_16 20 (dk_at dksX5_brokenOf_1 4 rfl rfl)
theorem dX5_brokenOf_29 : decode cX5_brokenOf 29 = .ok (.if_icmp .ge 81, 3) := dk_162 0 81 (dk_at dksX5_brokenOf_1 6 rfl rfl)
theorem dX5_brokenOf_32 : decode cX5_brokenOf 32 = .ok (.iload 4, 2) := dk_21 4 (dk_at dksX5_brokenOf_1 9 rfl rfl)
theorem dX5_brokenOf_34 : decode cX5_brokenOf 34 = .ok (.iload_n 3, 1) := dk_29 (dk_at dksX5_brokenOf_1 11 rfl rfl)
theorem dX5_brokenOf_35 : decode cX5_brokenOf 35 = .ok (.if_icmp .eq 16, 3) := dk_159 0 16 (dk_at dksX5_brokenOf_1 12 rfl rfl)
theorem dX5_brokenOf_38 : decode cX5_brokenOf 38 = .ok (.aload_n 0, 1) := dk_42 (dk_at dksX5_brokenOf_1 15 rfl rfl)
theorem dX5_brokenOf_39 : decode cX5_brokenOf 39 = .ok (.getfield 33, 3) := dk_180 0 33 (dk_at dksX5_brokenOf_1 16 rfl rfl)
theorem dX5_brokenOf_42 : decode cX5_brokenOf 42 = .ok (.bipush 74, 2) := dk_16 74 (dk_at dksX5_brokenOf_1 19 rfl rfl)
theorem dX5_brokenOf_44 : decode cX5_brokenOf 44 = .ok (.iload_n 1, 1) := dk_27 (dk_at dksX5_brokenOf_1 21 rfl rfl)
theorem dX5_brokenOf_45 : decode cX5_brokenOf 45 = .ok (.iadd, 1) := dk_96 (dk_at dksX5_brokenOf_1 22 rfl rfl)
theorem dX5_brokenOf_46 : decode cX5_brokenOf 46 = .ok (.iaload, 1) := dk_46 (dk_at dksX5_brokenOf_1 23 rfl rfl)
theorem dX5_brokenOf_47 : decode cX5_brokenOf 47 = .ok (.iconst 1, 1) := dk_4 (dk_at dksX5_brokenOf_2 0 rfl rfl)
theorem dX5_brokenOf_48 : decode cX5_brokenOf 48 = .ok (.if_icmp .ne 62, 3) := dk_160 0 62 (dk_at dksX5_brokenOf_2 1 rfl rfl)
theorem dX5_brokenOf_51 : decode cX5_brokenOf 51 = .ok (.aload_n 0, 1) := dk_42 (dk_at dksX5_brokenOf_2 4 rfl rfl)
theorem dX5_brokenOf_52 : decode cX5_brokenOf 52 = .ok (.getfield 33, 3) := dk_180 0 33 (dk_at dksX5_brokenOf_2 5 rfl rfl)
theorem dX5_brokenOf_55 : decode cX5_brokenOf 55 = .ok (.bipush 106, 2) := dk_16 106 (dk_at dksX5_brokenOf_2 8 rfl rfl)
theorem dX5_brokenOf_57 : decode cX5_brokenOf 57 = .ok (.iaload, 1) := dk_46 (dk_at dksX5_brokenOf_2 10 rfl rfl)
theorem dX5_brokenOf_58 : decode cX5_brokenOf 58 = .ok (.iload 4, 2) := dk_21 4 (dk_at dksX5_brokenOf_2 11 rfl rfl)
theorem dX5_brokenOf_60 : decode cX5_brokenOf 60 = .ok (.aload_n 0, 1) := dk_42 (dk_at dksX5_brokenOf_2 13 rfl rfl)
theorem dX5_brokenOf_61 : decode cX5_brokenOf 61 = .ok (.getfield 33, 3) := dk_180 0 33 (dk_at dksX5_brokenOf_2 14 rfl rfl)
theorem dX5_brokenOf_64 : decode cX5_brokenOf 64 = .ok (.iconst 0, 1) := dk_3 (dk_at dksX5_brokenOf_2 17 rfl rfl)
theorem dX5_brokenOf_65 : decode cX5_brokenOf 65 = .ok (.iaload, 1) := dk_46 (dk_at dksX5_brokenOf_2 18 rfl rfl)
theorem dX5_brokenOf_66 : decode cX5_brokenOf 66 = .ok (.imul, 1) := dk_104 (dk_at dksX5_brokenOf_2 19 rfl rfl)
theorem dX5_brokenOf_67 : decode cX5_brokenOf 67 = .ok (.aload_n 0, 1) := dk_42 (dk_at dksX5_brokenOf_2 20 rfl rfl)
theorem dX5_brokenOf_68 : decode cX5_brokenOf 68 = .ok (.iload_n 1, 1) := dk_27 (dk_at dksX5_brokenOf_2 21 rfl rfl)
theorem dX5_brokenOf_69 : decode cX5_brokenOf 69 = .ok (.iload_n 2, 1) := dk_28 (dk_at dksX5_brokenOf_2 22 rfl rfl)
theorem dX5_brokenOf_70 : decode cX5_brokenOf 70 = .ok (.invokevirtual 298, 3) := dk_182 1 42 (dk_at dksX5_brokenOf_3 0 rfl rfl)
theorem dX5_brokenOf_73 : decode cX5_brokenOf 73 = .ok (.iadd, 1) := dk_96 (dk_at dksX5_brokenOf_3 3 rfl rfl)
theorem dX5_brokenOf_74 : decode cX5_brokenOf 74 = .ok (.if_icmp .gt 5, 3) := dk_163 0 5 (dk_at dksX5_brokenOf_3 4 rfl rfl)
theorem dX5_brokenOf_77 : decode cX5_brokenOf 77 = .ok (.iconst (-1), 1) := dk_2 (dk_at dksX5_brokenOf_3 7 rfl rfl)
theorem dX5_brokenOf_78 : decode cX5_brokenOf 78 = .ok (.ireturn, 1) := dk_172 (dk_at dksX5_brokenOf_3 8 rfl rfl)
theorem dX5_brokenOf_79 : decode cX5_brokenOf 79 = .ok (.aload_n 0, 1) := dk_42 (dk_at dksX5_brokenOf_3 9 rfl rfl)
theorem dX5_brokenOf_80 : decode cX5_brokenOf 80 = .ok (.iload_n 1, 1) := dk_27 (dk_at dksX5_brokenOf_3 10 rfl rfl)
theorem dX5_brokenOf_81 : decode cX5_brokenOf 81 = .ok (.iload_n 2, 1) := dk_28 (dk_at dksX5_brokenOf_3 11 rfl rfl)
theorem dX5_brokenOf_82 : decode cX5_brokenOf 82 = .ok (.iload 4, 2) := dk_21 4 (dk_at dksX5_brokenOf_3 12 rfl rfl)
theorem dX5_brokenOf_84 : decode cX5_brokenOf 84 = .ok (.invokevirtual 308, 3) := dk_182 1 52 (dk_at dksX5_brokenOf_3 14 rfl rfl)
theorem dX5_brokenOf_87 : decode cX5_brokenOf 87 = .ok (.ifCond .ne 17, 3) := dk_154 0 17 (dk_at dksX5_brokenOf_3 17 rfl rfl)
theorem dX5_brokenOf_90 : decode cX5_brokenOf 90 = .ok (.aload_n 0, 1) := dk_42 (dk_at dksX5_brokenOf_3 20 rfl rfl)
theorem dX5_brokenOf_91 : decode cX5_brokenOf 91 = .ok (.iload_n 1, 1) := dk_27 (dk_at dksX5_brokenOf_3 21 rfl rfl)
theorem dX5_brokenOf_92 : decode cX5_brokenOf 92 = .ok (.iload_n 2, 1) := dk_28 (dk_at dksX5_brokenOf_3 22 rfl rfl)
theorem dX5_brokenOf_93 : decode cX5_brokenOf 93 = .ok (.iload 4, 2) := dk_21 4 (dk_at dksX5_brokenOf_4 0 rfl rfl)
theorem dX5_brokenOf_95 : decode cX5_brokenOf 95 = .ok (.invokevirtual 311, 3) := dk_182 1 55 (dk_at dksX5_brokenOf_4 2 rfl rfl)
theorem dX5_brokenOf_98 : decode cX5_brokenOf 98 = .ok (.ifCond .ne 6, 3) := dk_154 0 6 (dk_at dksX5_brokenOf_4 5 rfl rfl)
theorem dX5_brokenOf_101 : decode cX5_brokenOf 101 = .ok (.iload 4, 2) := dk_21 4 (dk_at dksX5_brokenOf_4 8 rfl rfl)
theorem dX5_brokenOf_103 : decode cX5_brokenOf 103 = .ok (.ireturn, 1) := dk_172 (dk_at dksX5_brokenOf_4 10 rfl rfl)
theorem dX5_brokenOf_104 : decode cX5_brokenOf 104 = .ok (.iinc 4 1, 3) := dk_132 4 1 (dk_at dksX5_brokenOf_4 11 rfl rfl)
theorem dX5_brokenOf_107 : decode cX5_brokenOf 107 = .ok (.goto (-82), 3) := dk_167 255 174 (dk_at dksX5_brokenOf_4 14 rfl rfl)
theorem dX5_brokenOf_110 : decode cX5_brokenOf 110 = .ok (.iconst (-1), 1) := dk_2 (dk_at dksX5_brokenOf_4 17 rfl rfl)
theorem dX5_brokenOf_111 : decode cX5_brokenOf 111 = .ok (.ireturn, 1) := dk_172 (dk_at dksX5_brokenOf_4 18 rfl rfl)
abbrev cX5_dueOf : ByteArray := prog_26_method_59_code
def yX5_dueOf : MethodName := ⟨RX5, "dueOf", "(II)I"⟩
def dkwX5_dueOf_1 : List UInt8 := [180, 0, 33, 3, 46, 112, 42, 27, 28, 182, 1, 42, 163, 0, 7, 3, 167, 0, 4, 4, 96, 172]
abbrev dktX5_dueOf_1 : List UInt8 := dkwX5_dueOf_1 ++ []
def dkwX5_dueOf_0 : List UInt8 := [42, 180, 0, 33, 16, 124, 27, 96, 46, 4, 100, 62, 29, 42, 180, 0, 33, 3, 46, 108, 29, 42]
abbrev dktX5_dueOf_0 : List UInt8 := dkwX5_dueOf_0 ++ dktX5_dueOf_1
theorem dksX5_dueOf_0 : cX5_dueOf.data.toList.drop 0 = dktX5_dueOf_0 := by decide +kernel
theorem dksX5_dueOf_1 : cX5_dueOf.data.toList.drop 22 = dktX5_dueOf_1 := dk_seg dksX5_dueOf_0 22 rfl rfl
theorem dX5_dueOf_0 : decode cX5_dueOf 0 = .ok (.aload_n 0, 1) := dk_42 (dk_at dksX5_dueOf_0 0 rfl rfl)
theorem dX5_dueOf_1 : decode cX5_dueOf 1 = .ok (.getfield 33, 3) := dk_180 0 33 (dk_at dksX5_dueOf_0 1 rfl rfl)
theorem dX5_dueOf_4 : decode cX5_dueOf 4 = .ok (.bipush 124, 2) := dk_16 124 (dk_at dksX5_dueOf_0 4 rfl rfl)
theorem dX5_dueOf_6 : decode cX5_dueOf 6 = .ok (.iload_n 1, 1) := dk_27 (dk_at dksX5_dueOf_0 6 rfl rfl)
theorem dX5_dueOf_7 : decode cX5_dueOf 7 = .ok (.iadd, 1) := dk_96 (dk_at dksX5_dueOf_0 7 rfl rfl)
theorem dX5_dueOf_8 : decode cX5_dueOf 8 = .ok (.iaload, 1) := dk_46 (dk_at dksX5_dueOf_0 8 rfl rfl)
theorem dX5_dueOf_9 : decode cX5_dueOf 9 = .ok (.iconst 1, 1) := dk_4 (dk_at dksX5_dueOf_0 9 rfl rfl)
theorem dX5_dueOf_10 : decode cX5_dueOf 10 = .ok (.isub, 1) := dk_100 (dk_at dksX5_dueOf_0 10 rfl rfl)
theorem dX5_dueOf_11 : decode cX5_dueOf 11 = .ok (.istore_n 3, 1) := dk_62 (dk_at dksX5_dueOf_0 11 rfl rfl)
theorem dX5_dueOf_12 : decode cX5_dueOf 12 = .ok (.iload_n 3, 1) := dk_29 (dk_at dksX5_dueOf_0 12 rfl rfl)
theorem dX5_dueOf_13 : decode cX5_dueOf 13 = .ok (.aload_n 0, 1) := dk_42 (dk_at dksX5_dueOf_0 13 rfl rfl)
theorem dX5_dueOf_14 : decode cX5_dueOf 14 = .ok (.getfield 33, 3) := dk_180 0 33 (dk_at dksX5_dueOf_0 14 rfl rfl)
theorem dX5_dueOf_17 : decode cX5_dueOf 17 = .ok (.iconst 0, 1) := dk_3 (dk_at dksX5_dueOf_0 17 rfl rfl)
theorem dX5_dueOf_18 : decode cX5_dueOf 18 = .ok (.iaload, 1) := dk_46 (dk_at dksX5_dueOf_0 18 rfl rfl)
theorem dX5_dueOf_19 : decode cX5_dueOf 19 = .ok (.idiv, 1) := dk_108 (dk_at dksX5_dueOf_0 19 rfl rfl)
theorem dX5_dueOf_20 : decode cX5_dueOf 20 = .ok (.iload_n 3, 1) := dk_29 (dk_at dksX5_dueOf_0 20 rfl rfl)
theorem dX5_dueOf_21 : decode cX5_dueOf 21 = .ok (.aload_n 0, 1) := dk_42 (dk_at dksX5_dueOf_0 21 rfl rfl)
theorem dX5_dueOf_22 : decode cX5_dueOf 22 = .ok (.getfield 33, 3) := dk_180 0 33 (dk_at dksX5_dueOf_1 0 rfl rfl)
theorem dX5_dueOf_25 : decode cX5_dueOf 25 = .ok (.iconst 0, 1) := dk_3 (dk_at dksX5_dueOf_1 3 rfl rfl)
theorem dX5_dueOf_26 : decode cX5_dueOf 26 = .ok (.iaload, 1) := dk_46 (dk_at dksX5_dueOf_1 4 rfl rfl)
theorem dX5_dueOf_27 : decode cX5_dueOf 27 = .ok (.irem, 1) := dk_112 (dk_at dksX5_dueOf_1 5 rfl rfl)
theorem dX5_dueOf_28 : decode cX5_dueOf 28 = .ok (.aload_n 0, 1) := dk_42 (dk_at dksX5_dueOf_1 6 rfl rfl)
theorem dX5_dueOf_29 : decode cX5_dueOf 29 = .ok (.iload_n 1, 1) := dk_27 (dk_at dksX5_dueOf_1 7 rfl rfl)
theorem dX5_dueOf_30 : decode cX5_dueOf 30 = .ok (.iload_n 2, 1) := dk_28 (dk_at dksX5_dueOf_1 8 rfl rfl)
theorem dX5_dueOf_31 : decode cX5_dueOf 31 = .ok (.invokevirtual 298, 3) := dk_182 1 42 (dk_at dksX5_dueOf_1 9 rfl rfl)
theorem dX5_dueOf_34 : decode cX5_dueOf 34 = .ok (.if_icmp .gt 7, 3) := dk_163 0 7 (dk_at dksX5_dueOf_1 12 rfl rfl)
theorem dX5_dueOf_37 : decode cX5_dueOf 37 = .ok (.iconst 0, 1) := dk_3 (dk_at dksX5_dueOf_1 15 rfl rfl)
theorem dX5_dueOf_38 : decode cX5_dueOf 38 = .ok (.goto 4, 3) := dk_167 0 4 (dk_at dksX5_dueOf_1 16 rfl rfl)
theorem dX5_dueOf_41 : decode cX5_dueOf 41 = .ok (.iconst 1, 1) := dk_4 (dk_at dksX5_dueOf_1 19 rfl rfl)
theorem dX5_dueOf_42 : decode cX5_dueOf 42 = .ok (.iadd, 1) := dk_96 (dk_at dksX5_dueOf_1 20 rfl rfl)
theorem dX5_dueOf_43 : decode cX5_dueOf 43 = .ok (.ireturn, 1) := dk_172 (dk_at dksX5_dueOf_1 21 rfl rfl)
abbrev cX5_lastOf : ByteArray := prog_26_method_58_code
def yX5_lastOf : MethodName := ⟨RX5, "lastOf", "(II)I"⟩
def dkwX5_lastOf_1 : List UInt8 := [153, 0, 7, 4, 167, 0, 4, 3, 100, 184, 1, 39, 172]
abbrev dktX5_lastOf_1 : List UInt8 := dkwX5_lastOf_1 ++ []
def dkwX5_lastOf_0 : List UInt8 := [42, 180, 0, 33, 3, 46, 4, 100, 42, 180, 0, 33, 16, 58, 27, 96, 46, 28, 3, 184, 0, 223]
abbrev dktX5_lastOf_0 : List UInt8 := dkwX5_lastOf_0 ++ dktX5_lastOf_1
theorem dksX5_lastOf_0 : cX5_lastOf.data.toList.drop 0 = dktX5_lastOf_0 := by decide +kernel
theorem dksX5_lastOf_1 : cX5_lastOf.data.toList.drop 22 = dktX5_lastOf_1 := dk_seg dksX5_lastOf_0 22 rfl rfl
theorem dX5_lastOf_0 : decode cX5_lastOf 0 = .ok (.aload_n 0, 1) := dk_42 (dk_at dksX5_lastOf_0 0 rfl rfl)
theorem dX5_lastOf_1 : decode cX5_lastOf 1 = .ok (.getfield 33, 3) := dk_180 0 33 (dk_at dksX5_lastOf_0 1 rfl rfl)
theorem dX5_lastOf_4 : decode cX5_lastOf 4 = .ok (.iconst 0, 1) := dk_3 (dk_at dksX5_lastOf_0 4 rfl rfl)
theorem dX5_lastOf_5 : decode cX5_lastOf 5 = .ok (.iaload, 1) := dk_46 (dk_at dksX5_lastOf_0 5 rfl rfl)
theorem dX5_lastOf_6 : decode cX5_lastOf 6 = .ok (.iconst 1, 1) := dk_4 (dk_at dksX5_lastOf_0 6 rfl rfl)
theorem dX5_lastOf_7 : decode cX5_lastOf 7 = .ok (.isub, 1) := dk_100 (dk_at dksX5_lastOf_0 7 rfl rfl)
theorem dX5_lastOf_8 : decode cX5_lastOf 8 = .ok (.aload_n 0, 1) := dk_42 (dk_at dksX5_lastOf_0 8 rfl rfl)
theorem dX5_lastOf_9 : decode cX5_lastOf 9 = .ok (.getfield 33, 3) := dk_180 0 33 (dk_at dksX5_lastOf_0 9 rfl rfl)
theorem dX5_lastOf_12 : decode cX5_lastOf 12 = .ok (.bipush 58, 2) := dk_16 58 (dk_at dksX5_lastOf_0 12 rfl rfl)
theorem dX5_lastOf_14 : decode cX5_lastOf 14 = .ok (.iload_n 1, 1) := dk_27 (dk_at dksX5_lastOf_0 14 rfl rfl)
theorem dX5_lastOf_15 : decode cX5_lastOf 15 = .ok (.iadd, 1) := dk_96 (dk_at dksX5_lastOf_0 15 rfl rfl)
theorem dX5_lastOf_16 : decode cX5_lastOf 16 = .ok (.iaload, 1) := dk_46 (dk_at dksX5_lastOf_0 16 rfl rfl)
theorem dX5_lastOf_17 : decode cX5_lastOf 17 = .ok (.iload_n 2, 1) := dk_28 (dk_at dksX5_lastOf_0 17 rfl rfl)
theorem dX5_lastOf_18 : decode cX5_lastOf 18 = .ok (.iconst 0, 1) := dk_3 (dk_at dksX5_lastOf_0 18 rfl rfl)
theorem dX5_lastOf_19 : decode cX5_lastOf 19 = .ok (.invokestatic 223, 3) := dk_184 0 223 (dk_at dksX5_lastOf_0 19 rfl rfl)
theorem dX5_lastOf_22 : decode cX5_lastOf 22 = .ok (.ifCond .eq 7, 3) := dk_153 0 7 (dk_at dksX5_lastOf_1 0 rfl rfl)
theorem dX5_lastOf_25 : decode cX5_lastOf 25 = .ok (.iconst 1, 1) := dk_4 (dk_at dksX5_lastOf_1 3 rfl rfl)
theorem dX5_lastOf_26 : decode cX5_lastOf 26 = .ok (.goto 4, 3) := dk_167 0 4 (dk_at dksX5_lastOf_1 4 rfl rfl)
theorem dX5_lastOf_29 : decode cX5_lastOf 29 = .ok (.iconst 0, 1) := dk_3 (dk_at dksX5_lastOf_1 7 rfl rfl)
theorem dX5_lastOf_30 : decode cX5_lastOf 30 = .ok (.isub, 1) := dk_100 (dk_at dksX5_lastOf_1 8 rfl rfl)
theorem dX5_lastOf_31 : decode cX5_lastOf 31 = .ok (.invokestatic 295, 3) := dk_184 1 39 (dk_at dksX5_lastOf_1 9 rfl rfl)
theorem dX5_lastOf_34 : decode cX5_lastOf 34 = .ok (.ireturn, 1) := dk_172 (dk_at dksX5_lastOf_1 12 rfl rfl)
abbrev cX5_lesser : ByteArray := prog_26_method_9_code
def yX5_lesser : MethodName := ⟨RX5, "lesser", "(II)I"⟩
def dkwX5_lesser_0 : List UInt8 := [26, 27, 162, 0, 7, 26, 167, 0, 4, 27, 172]
abbrev dktX5_lesser_0 : List UInt8 := dkwX5_lesser_0 ++ []
theorem dksX5_lesser_0 : cX5_lesser.data.toList.drop 0 = dktX5_lesser_0 := by decide +kernel
theorem dX5_lesser_0 : decode cX5_lesser 0 = .ok (.iload_n 0, 1) := dk_26 (dk_at dksX5_lesser_0 0 rfl rfl)
theorem dX5_lesser_1 : decode cX5_lesser 1 = .ok (.iload_n 1, 1) := dk_27 (dk_at dksX5_lesser_0 1 rfl rfl)
theorem dX5_lesser_2 : decode cX5_lesser 2 = .ok (.if_icmp .ge 7, 3) := dk_162 0 7 (dk_at dksX5_lesser_0 2 rfl rfl)
theorem dX5_lesser_5 : decode cX5_lesser 5 = .ok (.iload_n 0, 1) := dk_26 (dk_at dksX5_lesser_0 5 rfl rfl)
theorem dX5_lesser_6 : decode cX5_lesser 6 = .ok (.goto 4, 3) := dk_167 0 4 (dk_at dksX5_lesser_0 6 rfl rfl)
theorem dX5_lesser_9 : decode cX5_lesser 9 = .ok (.iload_n 1, 1) := dk_27 (dk_at dksX5_lesser_0 9 rfl rfl)
theorem dX5_lesser_10 : decode cX5_lesser 10 = .ok (.ireturn, 1) := dk_172 (dk_at dksX5_lesser_0 10 rfl rfl)
abbrev cX5_isKept : ByteArray := prog_26_method_61_code
def yX5_isKept : MethodName := ⟨RX5, "isKept", "(III)Z"⟩
def dkwX5_isKept_1 : List UInt8 := [172]
abbrev dktX5_isKept_1 : List UInt8 := dkwX5_isKept_1 ++ []
def dkwX5_isKept_0 : List UInt8 := [42, 27, 28, 29, 182, 1, 45, 42, 180, 0, 33, 16, 66, 27, 96, 46, 161, 0, 7, 4, 167, 0, 4, 3]
abbrev dktX5_isKept_0 : List UInt8 := dkwX5_isKept_0 ++ dktX5_isKept_1
theorem dksX5_isKept_0 : cX5_isKept.data.toList.drop 0 = dktX5_isKept_0 := by decide +kernel
theorem dksX5_isKept_1 : cX5_isKept.data.toList.drop 24 = dktX5_isKept_1 := dk_seg dksX5_isKept_0 24 rfl rfl
theorem dX5_isKept_0 : decode cX5_isKept 0 = .ok (.aload_n 0, 1) := dk_42 (dk_at dksX5_isKept_0 0 rfl rfl)
theorem dX5_isKept_1 : decode cX5_isKept 1 = .ok (.iload_n 1, 1) := dk_27 (dk_at dksX5_isKept_0 1 rfl rfl)
theorem dX5_isKept_2 : decode cX5_isKept 2 = .ok (.iload_n 2, 1) := dk_28 (dk_at dksX5_isKept_0 2 rfl rfl)
theorem dX5_isKept_3 : decode cX5_isKept 3 = .ok (.iload_n 3, 1) := dk_29 (dk_at dksX5_isKept_0 3 rfl rfl)
theorem dX5_isKept_4 : decode cX5_isKept 4 = .ok (.invokevirtual 301, 3) := dk_182 1 45 (dk_at dksX5_isKept_0 4 rfl rfl)
theorem dX5_isKept_7 : decode cX5_isKept 7 = .ok (.aload_n 0, 1) := dk_42 (dk_at dksX5_isKept_0 7 rfl rfl)
theorem dX5_isKept_8 : decode cX5_isKept 8 = .ok (.getfield 33, 3) := dk_180 0 33 (dk_at dksX5_isKept_0 8 rfl rfl)
theorem dX5_isKept_11 : decode cX5_isKept 11 = .ok (.bipush 66, 2) := dk_16 66 (dk_at dksX5_isKept_0 11 rfl rfl)
theorem dX5_isKept_13 : decode cX5_isKept 13 = .ok (.iload_n 1, 1) := dk_27 (dk_at dksX5_isKept_0 13 rfl rfl)
theorem dX5_isKept_14 : decode cX5_isKept 14 = .ok (.iadd, 1) := dk_96 (dk_at dksX5_isKept_0 14 rfl rfl)
theorem dX5_isKept_15 : decode cX5_isKept 15 = .ok (.iaload, 1) := dk_46 (dk_at dksX5_isKept_0 15 rfl rfl)
theorem dX5_isKept_16 : decode cX5_isKept 16 = .ok (.if_icmp .lt 7, 3) := dk_161 0 7 (dk_at dksX5_isKept_0 16 rfl rfl)
theorem dX5_isKept_19 : decode cX5_isKept 19 = .ok (.iconst 1, 1) := dk_4 (dk_at dksX5_isKept_0 19 rfl rfl)
theorem dX5_isKept_20 : decode cX5_isKept 20 = .ok (.goto 4, 3) := dk_167 0 4 (dk_at dksX5_isKept_0 20 rfl rfl)
theorem dX5_isKept_23 : decode cX5_isKept 23 = .ok (.iconst 0, 1) := dk_3 (dk_at dksX5_isKept_0 23 rfl rfl)
theorem dX5_isKept_24 : decode cX5_isKept 24 = .ok (.ireturn, 1) := dk_172 (dk_at dksX5_isKept_1 0 rfl rfl)
abbrev cX5_timesOn : ByteArray := prog_26_method_60_code
def yX5_timesOn : MethodName := ⟨RX5, "timesOn", "(III)I"⟩
def dkwX5_timesOn_9 : List UInt8 := [132, 5, 1, 167, 255, 51, 21, 4, 172]
abbrev dktX5_timesOn_9 : List UInt8 := dkwX5_timesOn_9 ++ []
def dkwX5_timesOn_8 : List UInt8 := [180, 0, 33, 21, 6, 6, 96, 46, 184, 0, 223, 153, 0, 7, 4, 167, 0, 4, 3, 96, 54, 4]
abbrev dktX5_timesOn_8 : List UInt8 := dkwX5_timesOn_8 ++ dktX5_timesOn_9
def dkwX5_timesOn_7 : List UInt8 := [184, 0, 223, 153, 0, 39, 42, 180, 0, 33, 16, 8, 42, 180, 0, 33, 16, 42, 27, 96, 46, 96, 46, 42]
abbrev dktX5_timesOn_7 : List UInt8 := dkwX5_timesOn_7 ++ dktX5_timesOn_8
def dkwX5_timesOn_6 : List UInt8 := [180, 0, 33, 21, 6, 6, 96, 46, 42, 180, 0, 33, 16, 42, 27, 96, 46, 159, 0, 43, 28, 5]
abbrev dktX5_timesOn_6 : List UInt8 := dkwX5_timesOn_6 ++ dktX5_timesOn_7
def dkwX5_timesOn_5 : List UInt8 := [21, 6, 5, 96, 46, 42, 180, 0, 33, 16, 34, 27, 96, 46, 159, 0, 6, 167, 0, 74, 21, 4, 42]
abbrev dktX5_timesOn_5 : List UInt8 := dkwX5_timesOn_5 ++ dktX5_timesOn_6
def dkwX5_timesOn_4 : List UInt8 := [180, 0, 33, 21, 6, 4, 96, 46, 42, 180, 0, 33, 16, 26, 27, 96, 46, 160, 0, 98, 42, 180, 0, 33]
abbrev dktX5_timesOn_4 : List UInt8 := dkwX5_timesOn_4 ++ dktX5_timesOn_5
def dkwX5_timesOn_3 : List UInt8 := [180, 0, 33, 16, 50, 27, 96, 46, 161, 0, 130, 21, 7, 42, 27, 28, 182, 1, 42, 163, 0, 119, 42]
abbrev dktX5_timesOn_3 : List UInt8 := dkwX5_timesOn_3 ++ dktX5_timesOn_4
def dkwX5_timesOn_2 : List UInt8 := [180, 0, 33, 21, 6, 46, 42, 180, 0, 33, 16, 124, 27, 96, 46, 4, 100, 161, 0, 144, 21, 7, 42]
abbrev dktX5_timesOn_2 : List UInt8 := dkwX5_timesOn_2 ++ dktX5_timesOn_3
def dkwX5_timesOn_1 : List UInt8 := [104, 96, 54, 6, 42, 180, 0, 33, 21, 6, 46, 29, 42, 180, 0, 33, 3, 46, 104, 100, 54, 7, 42]
abbrev dktX5_timesOn_1 : List UInt8 := dkwX5_timesOn_1 ++ dktX5_timesOn_2
def dkwX5_timesOn_0 : List UInt8 := [3, 54, 4, 3, 54, 5, 21, 5, 42, 180, 0, 33, 16, 123, 46, 162, 0, 199, 17, 0, 148, 7, 21, 5]
abbrev dktX5_timesOn_0 : List UInt8 := dkwX5_timesOn_0 ++ dktX5_timesOn_1
theorem dksX5_timesOn_0 : cX5_timesOn.data.toList.drop 0 = dktX5_timesOn_0 := by decide +kernel
theorem dksX5_timesOn_1 : cX5_timesOn.data.toList.drop 24 = dktX5_timesOn_1 := dk_seg dksX5_timesOn_0 24 rfl rfl
theorem dksX5_timesOn_2 : cX5_timesOn.data.toList.drop 47 = dktX5_timesOn_2 := dk_seg dksX5_timesOn_1 23 rfl rfl
theorem dksX5_timesOn_3 : cX5_timesOn.data.toList.drop 70 = dktX5_timesOn_3 := dk_seg dksX5_timesOn_2 23 rfl rfl
theorem dksX5_timesOn_4 : cX5_timesOn.data.toList.drop 93 = dktX5_timesOn_4 := dk_seg dksX5_timesOn_3 23 rfl rfl
theorem dksX5_timesOn_5 : cX5_timesOn.data.toList.drop 117 = dktX5_timesOn_5 := dk_seg dksX5_timesOn_4 24 rfl rfl
theorem dksX5_timesOn_6 : cX5_timesOn.data.toList.drop 140 = dktX5_timesOn_6 := dk_seg dksX5_timesOn_5 23 rfl rfl
theorem dksX5_timesOn_7 : cX5_timesOn.data.toList.drop 162 = dktX5_timesOn_7 := dk_seg dksX5_timesOn_6 22 rfl rfl
theorem dksX5_timesOn_8 : cX5_timesOn.data.toList.drop 186 = dktX5_timesOn_8 := dk_seg dksX5_timesOn_7 24 rfl rfl
theorem dksX5_timesOn_9 : cX5_timesOn.data.toList.drop 208 = dktX5_timesOn_9 := dk_seg dksX5_timesOn_8 22 rfl rfl
theorem dX5_timesOn_0 : decode cX5_timesOn 0 = .ok (.iconst 0, 1) := dk_3 (dk_at dksX5_timesOn_0 0 rfl rfl)
theorem dX5_timesOn_1 : decode cX5_timesOn 1 = .ok (.istore 4, 2) := dk_54 4 (dk_at dksX5_timesOn_0 1 rfl rfl)
theorem dX5_timesOn_3 : decode cX5_timesOn 3 = .ok (.iconst 0, 1) := dk_3 (dk_at dksX5_timesOn_0 3 rfl rfl)
theorem dX5_timesOn_4 : decode cX5_timesOn 4 = .ok (.istore 5, 2) := dk_54 5 (dk_at dksX5_timesOn_0 4 rfl rfl)
theorem dX5_timesOn_6 : decode cX5_timesOn 6 = .ok (.iload 5, 2) := dk_21 5 (dk_at dksX5_timesOn_0 6 rfl rfl)
theorem dX5_timesOn_8 : decode cX5_timesOn 8 = .ok (.aload_n 0, 1) := dk_42 (dk_at dksX5_timesOn_0 8 rfl rfl)
theorem dX5_timesOn_9 : decode cX5_timesOn 9 = .ok (.getfield 33, 3) := dk_180 0 33 (dk_at dksX5_timesOn_0 9 rfl rfl)
theorem dX5_timesOn_12 : decode cX5_timesOn 12 = .ok (.bipush 123, 2) := dk_16 123 (dk_at dksX5_timesOn_0 12 rfl rfl)
theorem dX5_timesOn_14 : decode cX5_timesOn 14 = .ok (.iaload, 1) := dk_46 (dk_at dksX5_timesOn_0 14 rfl rfl)
theorem dX5_timesOn_15 : decode cX5_timesOn 15 = .ok (.if_icmp .ge 199, 3) := dk_162 0 199 (dk_at dksX5_timesOn_0 15 rfl rfl)
theorem dX5_timesOn_18 : decode cX5_timesOn 18 = .ok (.sipush 148, 3) := dk_17 0 148 (dk_at dksX5_timesOn_0 18 rfl rfl)
theorem dX5_timesOn_21 : decode cX5_timesOn 21 = .ok (.iconst 4, 1) := dk_7 (dk_at dksX5_timesOn_0 21 rfl rfl)
theorem dX5_timesOn_22 : decode cX5_timesOn 22 = .ok (.iload 5, 2) := dk_21 5 (dk_at dksX5_timesOn_0 22 rfl rfl)
theorem dX5_timesOn_24 : decode cX5_timesOn 24 = .ok (.imul, 1) := dk_104 (dk_at dksX5_timesOn_1 0 rfl rfl)
theorem dX5_timesOn_25 : decode cX5_timesOn 25 = .ok (.iadd, 1) := dk_96 (dk_at dksX5_timesOn_1 1 rfl rfl)
theorem dX5_timesOn_26 : decode cX5_timesOn 26 = .ok (.istore 6, 2) := dk_54 6 (dk_at dksX5_timesOn_1 2 rfl rfl)
theorem dX5_timesOn_28 : decode cX5_timesOn 28 = .ok (.aload_n 0, 1) := dk_42 (dk_at dksX5_timesOn_1 4 rfl rfl)
theorem dX5_timesOn_29 : decode cX5_timesOn 29 = .ok (.getfield 33, 3) := dk_180 0 33 (dk_at dksX5_timesOn_1 5 rfl rfl)
theorem dX5_timesOn_32 : decode cX5_timesOn 32 = .ok (.iload 6, 2) := dk_21 6 (dk_at dksX5_timesOn_1 8 rfl rfl)
theorem dX5_timesOn_34 : decode cX5_timesOn 34 = .ok (.iaload, 1) := dk_46 (dk_at dksX5_timesOn_1 10 rfl rfl)
theorem dX5_timesOn_35 : decode cX5_timesOn 35 = .ok (.iload_n 3, 1) := dk_29 (dk_at dksX5_timesOn_1 11 rfl rfl)
theorem dX5_timesOn_36 : decode cX5_timesOn 36 = .ok (.aload_n 0, 1) := dk_42 (dk_at dksX5_timesOn_1 12 rfl rfl)
theorem dX5_timesOn_37 : decode cX5_timesOn 37 = .ok (.getfield 33, 3) := dk_180 0 33 (dk_at dksX5_timesOn_1 13 rfl rfl)
theorem dX5_timesOn_40 : decode cX5_timesOn 40 = .ok (.iconst 0, 1) := dk_3 (dk_at dksX5_timesOn_1 16 rfl rfl)
theorem dX5_timesOn_41 : decode cX5_timesOn 41 = .ok (.iaload, 1) := dk_46 (dk_at dksX5_timesOn_1 17 rfl rfl)
theorem dX5_timesOn_42 : decode cX5_timesOn 42 = .ok (.imul, 1) := dk_104 (dk_at dksX5_timesOn_1 18 rfl rfl)
theorem dX5_timesOn_43 : decode cX5_timesOn 43 = .ok (.isub, 1) := dk_100 (dk_at dksX5_timesOn_1 19 rfl rfl)
theorem dX5_timesOn_44 : decode cX5_timesOn 44 = .ok (.istore 7, 2) := dk_54 7 (dk_at dksX5_timesOn_1 20 rfl rfl)
theorem dX5_timesOn_46 : decode cX5_timesOn 46 = .ok (.aload_n 0, 1) := dk_42 (dk_at dksX5_timesOn_1 22 rfl rfl)
theorem dX5_timesOn_47 : decode cX5_timesOn 47 = .ok (.getfield 33, 3) := dk_180 0 33 (dk_at dksX5_timesOn_2 0 rfl rfl)
theorem dX5_timesOn_50 : decode cX5_timesOn 50 = .ok (.iload 6, 2) := dk_21 6 (dk_at dksX5_timesOn_2 3 rfl rfl)
theorem dX5_timesOn_52 : decode cX5_timesOn 52 = .ok (.iaload, 1) := dk_46 (dk_at dksX5_timesOn_2 5 rfl rfl)
theorem dX5_timesOn_53 : decode cX5_timesOn 53 = .ok (.aload_n 0, 1) := dk_42 (dk_at dksX5_timesOn_2 6 rfl rfl)
theorem dX5_timesOn_54 : decode cX5_timesOn 54 = .ok (.getfield 33, 3) := dk_180 0 33 (dk_at dksX5_timesOn_2 7 rfl rfl)
theorem dX5_timesOn_57 : decode cX5_timesOn 57 = .ok (.bipush 124, 2) := dk_16 124 (dk_at dksX5_timesOn_2 10 rfl rfl)
theorem dX5_timesOn_59 : decode cX5_timesOn 59 = .ok (.iload_n 1, 1) := dk_27 (dk_at dksX5_timesOn_2 12 rfl rfl)
theorem dX5_timesOn_60 : decode cX5_timesOn 60 = .ok (.iadd, 1) := dk_96 (dk_at dksX5_timesOn_2 13 rfl rfl)
theorem dX5_timesOn_61 : decode cX5_timesOn 61 = .ok (.iaload, 1) := dk_46 (dk_at dksX5_timesOn_2 14 rfl rfl)
theorem dX5_timesOn_62 : decode cX5_timesOn 62 = .ok (.iconst 1, 1) := dk_4 (dk_at dksX5_timesOn_2 15 rfl rfl)
theorem dX5_timesOn_63 : decode cX5_timesOn 63 = .ok (.isub, 1) := dk_100 (dk_at dksX5_timesOn_2 16 rfl rfl)
theorem dX5_timesOn_64 : decode cX5_timesOn 64 = .ok (.if_icmp .lt 144, 3) := dk_161 0 144 (dk_at dksX5_timesOn_2 17 rfl rfl)
theorem dX5_timesOn_67 : decode cX5_timesOn 67 = .ok (.iload 7, 2) := dk_21 7 (dk_at dksX5_timesOn_2 20 rfl rfl)
theorem dX5_timesOn_69 : decode cX5_timesOn 69 = .ok (.aload_n 0, 1) := dk_42 (dk_at dksX5_timesOn_2 22 rfl rfl)
theorem dX5_timesOn_70 : decode cX5_timesOn 70 = .ok (.getfield 33, 3) := dk_180 0 33 (dk_at dksX5_timesOn_3 0 rfl rfl)
theorem dX5_timesOn_73 : decode cX5_timesOn 73 = .ok (.bipush 50, 2) := dk_16 50 (dk_at dksX5_timesOn_3 3 rfl rfl)
theorem dX5_timesOn_75 : decode cX5_timesOn 75 = .ok (.iload_n 1, 1) := dk_27 (dk_at dksX5_timesOn_3 5 rfl rfl)
theorem dX5_timesOn_76 : decode cX5_timesOn 76 = .ok (.iadd, 1) := dk_96 (dk_at dksX5_timesOn_3 6 rfl rfl)
theorem dX5_timesOn_77 : decode cX5_timesOn 77 = .ok (.iaload, 1) := dk_46 (dk_at dksX5_timesOn_3 7 rfl rfl)
theorem dX5_timesOn_78 : decode cX5_timesOn 78 = .ok (.if_icmp .lt 130, 3) := dk_161 0 130 (dk_at dksX5_timesOn_3 8 rfl rfl)
theorem dX5_timesOn_81 : decode cX5_timesOn 81 = .ok (.iload 7, 2) := dk_21 7 (dk_at dksX5_timesOn_3 11 rfl rfl)
theorem dX5_timesOn_83 : decode cX5_timesOn 83 = .ok (.aload_n 0, 1) := dk_42 (dk_at dksX5_timesOn_3 13 rfl rfl)
theorem dX5_timesOn_84 : decode cX5_timesOn 84 = .ok (.iload_n 1, 1) := dk_27 (dk_at dksX5_timesOn_3 14 rfl rfl)
theorem dX5_timesOn_85 : decode cX5_timesOn 85 = .ok (.iload_n 2, 1) := dk_28 (dk_at dksX5_timesOn_3 15 rfl rfl)
theorem dX5_timesOn_86 : decode cX5_timesOn 86 = .ok (.invokevirtual 298, 3) := dk_182 1 42 (dk_at dksX5_timesOn_3 16 rfl rfl)
theorem dX5_timesOn_89 : decode cX5_timesOn 89 = .ok (.if_icmp .gt 119, 3) := dk_163 0 119 (dk_at dksX5_timesOn_3 19 rfl rfl)
theorem dX5_timesOn_92 : decode cX5_timesOn 92 = .ok (.aload_n 0, 1) := dk_42 (dk_at dksX5_timesOn_3 22 rfl rfl)
theorem dX5_timesOn_93 : decode cX5_timesOn 93 = .ok (.getfield 33, 3) := dk_180 0 33 (dk_at dksX5_timesOn_4 0 rfl rfl)
theorem dX5_timesOn_96 : decode cX5_timesOn 96 = .ok (.iload 6, 2) := dk_21 6 (dk_at dksX5_timesOn_4 3 rfl rfl)
theorem dX5_timesOn_98 : decode cX5_timesOn 98 = .ok (.iconst 1, 1) := dk_4 (dk_at dksX5_timesOn_4 5 rfl rfl)
theorem dX5_timesOn_99 : decode cX5_timesOn 99 = .ok (.iadd, 1) := dk_96 (dk_at dksX5_timesOn_4 6 rfl rfl)
theorem dX5_timesOn_100 : decode cX5_timesOn 100 = .ok (.iaload, 1) := dk_46 (dk_at dksX5_timesOn_4 7 rfl rfl)
theorem dX5_timesOn_101 : decode cX5_timesOn 101 = .ok (.aload_n 0, 1) := dk_42 (dk_at dksX5_timesOn_4 8 rfl rfl)
theorem dX5_timesOn_102 : decode cX5_timesOn 102 = .ok (.getfield 33, 3) := dk_180 0 33 (dk_at dksX5_timesOn_4 9 rfl rfl)
theorem dX5_timesOn_105 : decode cX5_timesOn 105 = .ok (.bipush 26, 2) := dk_16 26 (dk_at dksX5_timesOn_4 12 rfl rfl)
theorem dX5_timesOn_107 : decode cX5_timesOn 107 = .ok (.iload_n 1, 1) := dk_27 (dk_at dksX5_timesOn_4 14 rfl rfl)
theorem dX5_timesOn_108 : decode cX5_timesOn 108 = .ok (.iadd, 1) := dk_96 (dk_at dksX5_timesOn_4 15 rfl rfl)
theorem dX5_timesOn_109 : decode cX5_timesOn 109 = .ok (.iaload, 1) := dk_46 (dk_at dksX5_timesOn_4 16 rfl rfl)
theorem dX5_timesOn_110 : decode cX5_timesOn 110 = .ok (.if_icmp .ne 98, 3) := dk_160 0 98 (dk_at dksX5_timesOn_4 17 rfl rfl)
theorem dX5_timesOn_113 : decode cX5_timesOn 113 = .ok (.aload_n 0, 1) := dk_42 (dk_at dksX5_timesOn_4 20 rfl rfl)
theorem dX5_timesOn_114 : decode cX5_timesOn 114 = .ok (.getfield 33, 3) := dk_180 0 33 (dk_at dksX5_timesOn_4 21 rfl rfl)
theorem dX5_timesOn_117 : decode cX5_timesOn 117 = .ok (.iload 6, 2) := dk_21 6 (dk_at dksX5_timesOn_5 0 rfl rfl)
theorem dX5_timesOn_119 : decode cX5_timesOn 119 = .ok (.iconst 2, 1) := dk_5 (dk_at dksX5_timesOn_5 2 rfl rfl)
theorem dX5_timesOn_120 : decode cX5_timesOn 120 = .ok (.iadd, 1) := dk_96 (dk_at dksX5_timesOn_5 3 rfl rfl)
theorem dX5_timesOn_121 : decode cX5_timesOn 121 = .ok (.iaload, 1) := dk_46 (dk_at dksX5_timesOn_5 4 rfl rfl)
theorem dX5_timesOn_122 : decode cX5_timesOn 122 = .ok (.aload_n 0, 1) := dk_42 (dk_at dksX5_timesOn_5 5 rfl rfl)
theorem dX5_timesOn_123 : decode cX5_timesOn 123 = .ok (.getfield 33, 3) := dk_180 0 33 (dk_at dksX5_timesOn_5 6 rfl rfl)
theorem dX5_timesOn_126 : decode cX5_timesOn 126 = .ok (.bipush 34, 2) := dk_16 34 (dk_at dksX5_timesOn_5 9 rfl rfl)
theorem dX5_timesOn_128 : decode cX5_timesOn 128 = .ok (.iload_n 1, 1) := dk_27 (dk_at dksX5_timesOn_5 11 rfl rfl)
theorem dX5_timesOn_129 : decode cX5_timesOn 129 = .ok (.iadd, 1) := dk_96 (dk_at dksX5_timesOn_5 12 rfl rfl)
theorem dX5_timesOn_130 : decode cX5_timesOn 130 = .ok (.iaload, 1) := dk_46 (dk_at dksX5_timesOn_5 13 rfl rfl)
theorem dX5_timesOn_131 : decode cX5_timesOn 131 = .ok (.if_icmp .eq 6, 3) := dk_159 0 6 (dk_at dksX5_timesOn_5 14 rfl rfl)
theorem dX5_timesOn_134 : decode cX5_timesOn 134 = .ok (.goto 74, 3) := dk_167 0 74 (dk_at dksX5_timesOn_5 17 rfl rfl)
theorem dX5_timesOn_137 : decode cX5_timesOn 137 = .ok (.iload 4, 2) := dk_21 4 (dk_at dksX5_timesOn_5 20 rfl rfl)
theorem dX5_timesOn_139 : decode cX5_timesOn 139 = .ok (.aload_n 0, 1) := dk_42 (dk_at dksX5_timesOn_5 22 rfl rfl)
theorem dX5_timesOn_140 : decode cX5_timesOn 140 = .ok (.getfield 33, 3) := dk_180 0 33 (dk_at dksX5_timesOn_6 0 rfl rfl)
theorem dX5_timesOn_143 : decode cX5_timesOn 143 = .ok (.iload 6, 2) := dk_21 6 (dk_at dksX5_timesOn_6 3 rfl rfl)
theorem dX5_timesOn_145 : decode cX5_timesOn 145 = .ok (.iconst 3, 1) := dk_6 (dk_at dksX5_timesOn_6 5 rfl rfl)
theorem dX5_timesOn_146 : decode cX5_timesOn 146 = .ok (.iadd, 1) := dk_96 (dk_at dksX5_timesOn_6 6 rfl rfl)
theorem dX5_timesOn_147 : decode cX5_timesOn 147 = .ok (.iaload, 1) := dk_46 (dk_at dksX5_timesOn_6 7 rfl rfl)
theorem dX5_timesOn_148 : decode cX5_timesOn 148 = .ok (.aload_n 0, 1) := dk_42 (dk_at dksX5_timesOn_6 8 rfl rfl)
theorem dX5_timesOn_149 : decode cX5_timesOn 149 = .ok (.getfield 33, 3) := dk_180 0 33 (dk_at dksX5_timesOn_6 9 rfl rfl)
theorem dX5_timesOn_152 : decode cX5_timesOn 152 = .ok (.bipush 42, 2) := dk_16 42 (dk_at dksX5_timesOn_6 12 rfl rfl)
theorem dX5_timesOn_154 : decode cX5_timesOn 154 = .ok (.iload_n 1, 1) := dk_27 (dk_at dksX5_timesOn_6 14 rfl rfl)
theorem dX5_timesOn_155 : decode cX5_timesOn 155 = .ok (.iadd, 1) := dk_96 (dk_at dksX5_timesOn_6 15 rfl rfl)
theorem dX5_timesOn_156 : decode cX5_timesOn 156 = .ok (.iaload, 1) := dk_46 (dk_at dksX5_timesOn_6 16 rfl rfl)
theorem dX5_timesOn_157 : decode cX5_timesOn 157 = .ok (.if_icmp .eq 43, 3) := dk_159 0 43 (dk_at dksX5_timesOn_6 17 rfl rfl)
theorem dX5_timesOn_160 : decode cX5_timesOn 160 = .ok (.iload_n 2, 1) := dk_28 (dk_at dksX5_timesOn_6 20 rfl rfl)
theorem dX5_timesOn_161 : decode cX5_timesOn 161 = .ok (.iconst 2, 1) := dk_5 (dk_at dksX5_timesOn_6 21 rfl rfl)
theorem dX5_timesOn_162 : decode cX5_timesOn 162 = .ok (.invokestatic 223, 3) := dk_184 0 223 (dk_at dksX5_timesOn_7 0 rfl rfl)
theorem dX5_timesOn_165 : decode cX5_timesOn 165 = .ok (.ifCond .eq 39, 3) := dk_153 0 39 (dk_at dksX5_timesOn_7 3 rfl rfl)
theorem dX5_timesOn_168 : decode cX5_timesOn 168 = .ok (.aload_n 0, 1) := dk_42 (dk_at dksX5_timesOn_7 6 rfl rfl)
theorem dX5_timesOn_169 : decode cX5_timesOn 169 = .ok (.getfield 33, 3) := dk_180 0 33 (dk_at dksX5_timesOn_7 7 rfl rfl)
theorem dX5_timesOn_172 : decode cX5_timesOn 172 = .ok (.bipush 8, 2) := dk_16 8 (dk_at dksX5_timesOn_7 10 rfl rfl)
theorem dX5_timesOn_174 : decode cX5_timesOn 174 = .ok (.aload_n 0, 1) := dk_42 (dk_at dksX5_timesOn_7 12 rfl rfl)
theorem dX5_timesOn_175 : decode cX5_timesOn 175 = .ok (.getfield 33, 3) := dk_180 0 33 (dk_at dksX5_timesOn_7 13 rfl rfl)
theorem dX5_timesOn_178 : decode cX5_timesOn 178 = .ok (.bipush 42, 2) := dk_16 42 (dk_at dksX5_timesOn_7 16 rfl rfl)
theorem dX5_timesOn_180 : decode cX5_timesOn 180 = .ok (.iload_n 1, 1) := dk_27 (dk_at dksX5_timesOn_7 18 rfl rfl)
theorem dX5_timesOn_181 : decode cX5_timesOn 181 = .ok (.iadd, 1) := dk_96 (dk_at dksX5_timesOn_7 19 rfl rfl)
theorem dX5_timesOn_182 : decode cX5_timesOn 182 = .ok (.iaload, 1) := dk_46 (dk_at dksX5_timesOn_7 20 rfl rfl)
theorem dX5_timesOn_183 : decode cX5_timesOn 183 = .ok (.iadd, 1) := dk_96 (dk_at dksX5_timesOn_7 21 rfl rfl)
theorem dX5_timesOn_184 : decode cX5_timesOn 184 = .ok (.iaload, 1) := dk_46 (dk_at dksX5_timesOn_7 22 rfl rfl)
theorem dX5_timesOn_185 : decode cX5_timesOn 185 = .ok (.aload_n 0, 1) := dk_42 (dk_at dksX5_timesOn_7 23 rfl rfl)
theorem dX5_timesOn_186 : decode cX5_timesOn 186 = .ok (.getfield 33, 3) := dk_180 0 33 (dk_at dksX5_timesOn_8 0 rfl rfl)
theorem dX5_timesOn_189 : decode cX5_timesOn 189 = .ok (.iload 6, 2) := dk_21 6 (dk_at dksX5_timesOn_8 3 rfl rfl)
theorem dX5_timesOn_191 : decode cX5_timesOn 191 = .ok (.iconst 3, 1) := dk_6 (dk_at dksX5_timesOn_8 5 rfl rfl)
theorem dX5_timesOn_192 : decode cX5_timesOn 192 = .ok (.iadd, 1) := dk_96 (dk_at dksX5_timesOn_8 6 rfl rfl)
theorem dX5_timesOn_193 : decode cX5_timesOn 193 = .ok (.iaload, 1) := dk_46 (dk_at dksX5_timesOn_8 7 rfl rfl)
theorem dX5_timesOn_194 : decode cX5_timesOn 194 = .ok (.invokestatic 223, 3) := dk_184 0 223 (dk_at dksX5_timesOn_8 8 rfl rfl)
theorem dX5_timesOn_197 : decode cX5_timesOn 197 = .ok (.ifCond .eq 7, 3) := dk_153 0 7 (dk_at dksX5_timesOn_8 11 rfl rfl)
theorem dX5_timesOn_200 : decode cX5_timesOn 200 = .ok (.iconst 1, 1) := dk_4 (dk_at dksX5_timesOn_8 14 rfl rfl)
theorem dX5_timesOn_201 : decode cX5_timesOn 201 = .ok (.goto 4, 3) := dk_167 0 4 (dk_at dksX5_timesOn_8 15 rfl rfl)
theorem dX5_timesOn_204 : decode cX5_timesOn 204 = .ok (.iconst 0, 1) := dk_3 (dk_at dksX5_timesOn_8 18 rfl rfl)
theorem dX5_timesOn_205 : decode cX5_timesOn 205 = .ok (.iadd, 1) := dk_96 (dk_at dksX5_timesOn_8 19 rfl rfl)
theorem dX5_timesOn_206 : decode cX5_timesOn 206 = .ok (.istore 4, 2) := dk_54 4 (dk_at dksX5_timesOn_8 20 rfl rfl)
theorem dX5_timesOn_208 : decode cX5_timesOn 208 = .ok (.iinc 5 1, 3) := dk_132 5 1 (dk_at dksX5_timesOn_9 0 rfl rfl)
theorem dX5_timesOn_211 : decode cX5_timesOn 211 = .ok (.goto (-205), 3) := dk_167 255 51 (dk_at dksX5_timesOn_9 3 rfl rfl)
theorem dX5_timesOn_214 : decode cX5_timesOn 214 = .ok (.iload 4, 2) := dk_21 4 (dk_at dksX5_timesOn_9 6 rfl rfl)
theorem dX5_timesOn_216 : decode cX5_timesOn 216 = .ok (.ireturn, 1) := dk_172 (dk_at dksX5_timesOn_9 8 rfl rfl)
abbrev cX5_isOff : ByteArray := prog_26_method_62_code
def yX5_isOff : MethodName := ⟨RX5, "isOff", "(III)Z"⟩
def dkwX5_isOff_5 : List UInt8 := [96, 46, 42, 180, 0, 33, 16, 26, 27, 96, 46, 160, 0, 5, 4, 172, 132, 4, 1, 167, 255, 123, 3, 172]
abbrev dktX5_isOff_5 : List UInt8 := dkwX5_isOff_5 ++ []
def dkwX5_isOff_4 : List UInt8 := [182, 1, 42, 184, 0, 187, 153, 0, 34, 28, 4, 184, 0, 223, 153, 0, 24, 42, 180, 0, 33, 21, 5, 4]
abbrev dktX5_isOff_4 : List UInt8 := dkwX5_isOff_4 ++ dktX5_isOff_5
def dkwX5_isOff_3 : List UInt8 := [21, 5, 46, 42, 180, 0, 33, 16, 124, 27, 96, 46, 4, 100, 161, 0, 49, 21, 6, 3, 42, 27, 28]
abbrev dktX5_isOff_3 : List UInt8 := dkwX5_isOff_3 ++ dktX5_isOff_4
def dkwX5_isOff_2 : List UInt8 := [21, 5, 5, 96, 46, 42, 180, 0, 33, 16, 82, 27, 96, 46, 4, 100, 160, 0, 70, 42, 180, 0, 33]
abbrev dktX5_isOff_2 : List UInt8 := dkwX5_isOff_2 ++ dktX5_isOff_3
def dkwX5_isOff_1 : List UInt8 := [54, 5, 42, 180, 0, 33, 21, 5, 46, 29, 42, 180, 0, 33, 3, 46, 104, 100, 54, 6, 42, 180, 0, 33]
abbrev dktX5_isOff_1 : List UInt8 := dkwX5_isOff_1 ++ dktX5_isOff_2
def dkwX5_isOff_0 : List UInt8 := [3, 54, 4, 21, 4, 42, 180, 0, 33, 16, 123, 46, 162, 0, 127, 17, 0, 148, 7, 21, 4, 104, 96]
abbrev dktX5_isOff_0 : List UInt8 := dkwX5_isOff_0 ++ dktX5_isOff_1
theorem dksX5_isOff_0 : cX5_isOff.data.toList.drop 0 = dktX5_isOff_0 := by decide +kernel
theorem dksX5_isOff_1 : cX5_isOff.data.toList.drop 23 = dktX5_isOff_1 := dk_seg dksX5_isOff_0 23 rfl rfl
theorem dksX5_isOff_2 : cX5_isOff.data.toList.drop 47 = dktX5_isOff_2 := dk_seg dksX5_isOff_1 24 rfl rfl
theorem dksX5_isOff_3 : cX5_isOff.data.toList.drop 70 = dktX5_isOff_3 := dk_seg dksX5_isOff_2 23 rfl rfl
theorem dksX5_isOff_4 : cX5_isOff.data.toList.drop 93 = dktX5_isOff_4 := dk_seg dksX5_isOff_3 23 rfl rfl
theorem dksX5_isOff_5 : cX5_isOff.data.toList.drop 117 = dktX5_isOff_5 := dk_seg dksX5_isOff_4 24 rfl rfl
theorem dX5_isOff_0 : decode cX5_isOff 0 = .ok (.iconst 0, 1) := dk_3 (dk_at dksX5_isOff_0 0 rfl rfl)
theorem dX5_isOff_1 : decode cX5_isOff 1 = .ok (.istore 4, 2) := dk_54 4 (dk_at dksX5_isOff_0 1 rfl rfl)
theorem dX5_isOff_3 : decode cX5_isOff 3 = .ok (.iload 4, 2) := dk_21 4 (dk_at dksX5_isOff_0 3 rfl rfl)
theorem dX5_isOff_5 : decode cX5_isOff 5 = .ok (.aload_n 0, 1) := dk_42 (dk_at dksX5_isOff_0 5 rfl rfl)
theorem dX5_isOff_6 : decode cX5_isOff 6 = .ok (.getfield 33, 3) := dk_180 0 33 (dk_at dksX5_isOff_0 6 rfl rfl)
theorem dX5_isOff_9 : decode cX5_isOff 9 = .ok (.bipush 123, 2) := dk_16 123 (dk_at dksX5_isOff_0 9 rfl rfl)
theorem dX5_isOff_11 : decode cX5_isOff 11 = .ok (.iaload, 1) := dk_46 (dk_at dksX5_isOff_0 11 rfl rfl)
theorem dX5_isOff_12 : decode cX5_isOff 12 = .ok (.if_icmp .ge 127, 3) := dk_162 0 127 (dk_at dksX5_isOff_0 12 rfl rfl)
theorem dX5_isOff_15 : decode cX5_isOff 15 = .ok (.sipush 148, 3) := dk_17 0 148 (dk_at dksX5_isOff_0 15 rfl rfl)
theorem dX5_isOff_18 : decode cX5_isOff 18 = .ok (.iconst 4, 1) := dk_7 (dk_at dksX5_isOff_0 18 rfl rfl)
theorem dX5_isOff_19 : decode cX5_isOff 19 = .ok (.iload 4, 2) := dk_21 4 (dk_at dksX5_isOff_0 19 rfl rfl)
theorem dX5_isOff_21 : decode cX5_isOff 21 = .ok (.imul, 1) := dk_104 (dk_at dksX5_isOff_0 21 rfl rfl)
theorem dX5_isOff_22 : decode cX5_isOff 22 = .ok (.iadd, 1) := dk_96 (dk_at dksX5_isOff_0 22 rfl rfl)
theorem dX5_isOff_23 : decode cX5_isOff 23 = .ok (.istore 5, 2) := dk_54 5 (dk_at dksX5_isOff_1 0 rfl rfl)
theorem dX5_isOff_25 : decode cX5_isOff 25 = .ok (.aload_n 0, 1) := dk_42 (dk_at dksX5_isOff_1 2 rfl rfl)
theorem dX5_isOff_26 : decode cX5_isOff 26 = .ok (.getfield 33, 3) := dk_180 0 33 (dk_at dksX5_isOff_1 3 rfl rfl)
theorem dX5_isOff_29 : decode cX5_isOff 29 = .ok (.iload 5, 2) := dk_21 5 (dk_at dksX5_isOff_1 6 rfl rfl)
theorem dX5_isOff_31 : decode cX5_isOff 31 = .ok (.iaload, 1) := dk_46 (dk_at dksX5_isOff_1 8 rfl rfl)
theorem dX5_isOff_32 : decode cX5_isOff 32 = .ok (.iload_n 3, 1) := dk_29 (dk_at dksX5_isOff_1 9 rfl rfl)
theorem dX5_isOff_33 : decode cX5_isOff 33 = .ok (.aload_n 0, 1) := dk_42 (dk_at dksX5_isOff_1 10 rfl rfl)
theorem dX5_isOff_34 : decode cX5_isOff 34 = .ok (.getfield 33, 3) := dk_180 0 33 (dk_at dksX5_isOff_1 11 rfl rfl)
theorem dX5_isOff_37 : decode cX5_isOff 37 = .ok (.iconst 0, 1) := dk_3 (dk_at dksX5_isOff_1 14 rfl rfl)
theorem dX5_isOff_38 : decode cX5_isOff 38 = .ok (.iaload, 1) := dk_46 (dk_at dksX5_isOff_1 15 rfl rfl)
theorem dX5_isOff_39 : decode cX5_isOff 39 = .ok (.imul, 1) := dk_104 (dk_at dksX5_isOff_1 16 rfl rfl)
theorem dX5_isOff_40 : decode cX5_isOff 40 = .ok (.isub, 1) := dk_100 (dk_at dksX5_isOff_1 17 rfl rfl)
theorem dX5_isOff_41 : decode cX5_isOff 41 = .ok (.istore 6, 2) := dk_54 6 (dk_at dksX5_isOff_1 18 rfl rfl)
theorem dX5_isOff_43 : decode cX5_isOff 43 = .ok (.aload_n 0, 1) := dk_42 (dk_at dksX5_isOff_1 20 rfl rfl)
theorem dX5_isOff_44 : decode cX5_isOff 44 = .ok (.getfield 33, 3) := dk_180 0 33 (dk_at dksX5_isOff_1 21 rfl rfl)
theorem dX5_isOff_47 : decode cX5_isOff 47 = .ok (.iload 5, 2) := dk_21 5 (dk_at dksX5_isOff_2 0 rfl rfl)
theorem dX5_isOff_49 : decode cX5_isOff 49 = .ok (.iconst 2, 1) := dk_5 (dk_at dksX5_isOff_2 2 rfl rfl)
theorem dX5_isOff_50 : decode cX5_isOff 50 = .ok (.iadd, 1) := dk_96 (dk_at dksX5_isOff_2 3 rfl rfl)
theorem dX5_isOff_51 : decode cX5_isOff 51 = .ok (.iaload, 1) := dk_46 (dk_at dksX5_isOff_2 4 rfl rfl)
theorem dX5_isOff_52 : decode cX5_isOff 52 = .ok (.aload_n 0, 1) := dk_42 (dk_at dksX5_isOff_2 5 rfl rfl)
theorem dX5_isOff_53 : decode cX5_isOff 53 = .ok (.getfield 33, 3) := dk_180 0 33 (dk_at dksX5_isOff_2 6 rfl rfl)
theorem dX5_isOff_56 : decode cX5_isOff 56 = .ok (.bipush 82, 2) := dk_16 82 (dk_at dksX5_isOff_2 9 rfl rfl)
theorem dX5_isOff_58 : decode cX5_isOff 58 = .ok (.iload_n 1, 1) := dk_27 (dk_at dksX5_isOff_2 11 rfl rfl)
theorem dX5_isOff_59 : decode cX5_isOff 59 = .ok (.iadd, 1) := dk_96 (dk_at dksX5_isOff_2 12 rfl rfl)
theorem dX5_isOff_60 : decode cX5_isOff 60 = .ok (.iaload, 1) := dk_46 (dk_at dksX5_isOff_2 13 rfl rfl)
theorem dX5_isOff_61 : decode cX5_isOff 61 = .ok (.iconst 1, 1) := dk_4 (dk_at dksX5_isOff_2 14 rfl rfl)
theorem dX5_isOff_62 : decode cX5_isOff 62 = .ok (.isub, 1) := dk_100 (dk_at dksX5_isOff_2 15 rfl rfl)
theorem dX5_isOff_63 : decode cX5_isOff 63 = .ok (.if_icmp .ne 70, 3) := dk_160 0 70 (dk_at dksX5_isOff_2 16 rfl rfl)
theorem dX5_isOff_66 : decode cX5_isOff 66 = .ok (.aload_n 0, 1) := dk_42 (dk_at dksX5_isOff_2 19 rfl rfl)
theorem dX5_isOff_67 : decode cX5_isOff 67 = .ok (.getfield 33, 3) := dk_180 0 33 (dk_at dksX5_isOff_2 20 rfl rfl)
theorem dX5_isOff_70 : decode cX5_isOff 70 = .ok (.iload 5, 2) := dk_21 5 (dk_at dksX5_isOff_3 0 rfl rfl)
theorem dX5_isOff_72 : decode cX5_isOff 72 = .ok (.iaload, 1) := dk_46 (dk_at dksX5_isOff_3 2 rfl rfl)
theorem dX5_isOff_73 : decode cX5_isOff 73 = .ok (.aload_n 0, 1) := dk_42 (dk_at dksX5_isOff_3 3 rfl rfl)
theorem dX5_isOff_74 : decode cX5_isOff 74 = .ok (.getfield 33, 3) := dk_180 0 33 (dk_at dksX5_isOff_3 4 rfl rfl)
theorem dX5_isOff_77 : decode cX5_isOff 77 = .ok (.bipush 124, 2) := dk_16 124 (dk_at dksX5_isOff_3 7 rfl rfl)
theorem dX5_isOff_79 : decode cX5_isOff 79 = .ok (.iload_n 1, 1) := dk_27 (dk_at dksX5_isOff_3 9 rfl rfl)
theorem dX5_isOff_80 : decode cX5_isOff 80 = .ok (.iadd, 1) := dk_96 (dk_at dksX5_isOff_3 10 rfl rfl)
theorem dX5_isOff_81 : decode cX5_isOff 81 = .ok (.iaload, 1) := dk_46 (dk_at dksX5_isOff_3 11 rfl rfl)
theorem dX5_isOff_82 : decode cX5_isOff 82 = .ok (.iconst 1, 1) := dk_4 (dk_at dksX5_isOff_3 12 rfl rfl)
theorem dX5_isOff_83 : decode cX5_isOff 83 = .ok (.isub, 1) := dk_100 (dk_at dksX5_isOff_3 13 rfl rfl)
theorem dX5_isOff_84 : decode cX5_isOff 84 = .ok (.if_icmp .lt 49, 3) := dk_161 0 49 (dk_at dksX5_isOff_3 14 rfl rfl)
theorem dX5_isOff_87 : decode cX5_isOff 87 = .ok (.iload 6, 2) := dk_21 6 (dk_at dksX5_isOff_3 17 rfl rfl)
theorem dX5_isOff_89 : decode cX5_isOff 89 = .ok (.iconst 0, 1) := dk_3 (dk_at dksX5_isOff_3 19 rfl rfl)
theorem dX5_isOff_90 : decode cX5_isOff 90 = .ok (.aload_n 0, 1) := dk_42 (dk_at dksX5_isOff_3 20 rfl rfl)
theorem dX5_isOff_91 : decode cX5_isOff 91 = .ok (.iload_n 1, 1) := dk_27 (dk_at dksX5_isOff_3 21 rfl rfl)
theorem dX5_isOff_92 : decode cX5_isOff 92 = .ok (.iload_n 2, 1) := dk_28 (dk_at dksX5_isOff_3 22 rfl rfl)
theorem dX5_isOff_93 : decode cX5_isOff 93 = .ok (.invokevirtual 298, 3) := dk_182 1 42 (dk_at dksX5_isOff_4 0 rfl rfl)
theorem dX5_isOff_96 : decode cX5_isOff 96 = .ok (.invokestatic 187, 3) := dk_184 0 187 (dk_at dksX5_isOff_4 3 rfl rfl)
theorem dX5_isOff_99 : decode cX5_isOff 99 = .ok (.ifCond .eq 34, 3) := dk_153 0 34 (dk_at dksX5_isOff_4 6 rfl rfl)
theorem dX5_isOff_102 : decode cX5_isOff 102 = .ok (.iload_n 2, 1) := dk_28 (dk_at dksX5_isOff_4 9 rfl rfl)
theorem dX5_isOff_103 : decode cX5_isOff 103 = .ok (.iconst 1, 1) := dk_4 (dk_at dksX5_isOff_4 10 rfl rfl)
theorem dX5_isOff_104 : decode cX5_isOff 104 = .ok (.invokestatic 223, 3) := dk_184 0 223 (dk_at dksX5_isOff_4 11 rfl rfl)
theorem dX5_isOff_107 : decode cX5_isOff 107 = .ok (.ifCond .eq 24, 3) := dk_153 0 24 (dk_at dksX5_isOff_4 14 rfl rfl)
theorem dX5_isOff_110 : decode cX5_isOff 110 = .ok (.aload_n 0, 1) := dk_42 (dk_at dksX5_isOff_4 17 rfl rfl)
theorem dX5_isOff_111 : decode cX5_isOff 111 = .ok (.getfield 33, 3) := dk_180 0 33 (dk_at dksX5_isOff_4 18 rfl rfl)
theorem dX5_isOff_114 : decode cX5_isOff 114 = .ok (.iload 5, 2) := dk_21 5 (dk_at dksX5_isOff_4 21 rfl rfl)
theorem dX5_isOff_116 : decode cX5_isOff 116 = .ok (.iconst 1, 1) := dk_4 (dk_at dksX5_isOff_4 23 rfl rfl)
theorem dX5_isOff_117 : decode cX5_isOff 117 = .ok (.iadd, 1) := dk_96 (dk_at dksX5_isOff_5 0 rfl rfl)
theorem dX5_isOff_118 : decode cX5_isOff 118 = .ok (.iaload, 1) := dk_46 (dk_at dksX5_isOff_5 1 rfl rfl)
theorem dX5_isOff_119 : decode cX5_isOff 119 = .ok (.aload_n 0, 1) := dk_42 (dk_at dksX5_isOff_5 2 rfl rfl)
theorem dX5_isOff_120 : decode cX5_isOff 120 = .ok (.getfield 33, 3) := dk_180 0 33 (dk_at dksX5_isOff_5 3 rfl rfl)
theorem dX5_isOff_123 : decode cX5_isOff 123 = .ok (.bipush 26, 2) := dk_16 26 (dk_at dksX5_isOff_5 6 rfl rfl)
theorem dX5_isOff_125 : decode cX5_isOff 125 = .ok (.iload_n 1, 1) := dk_27 (dk_at dksX5_isOff_5 8 rfl rfl)
theorem dX5_isOff_126 : decode cX5_isOff 126 = .ok (.iadd, 1) := dk_96 (dk_at dksX5_isOff_5 9 rfl rfl)
theorem dX5_isOff_127 : decode cX5_isOff 127 = .ok (.iaload, 1) := dk_46 (dk_at dksX5_isOff_5 10 rfl rfl)
theorem dX5_isOff_128 : decode cX5_isOff 128 = .ok (.if_icmp .ne 5, 3) := dk_160 0 5 (dk_at dksX5_isOff_5 11 rfl rfl)
theorem dX5_isOff_131 : decode cX5_isOff 131 = .ok (.iconst 1, 1) := dk_4 (dk_at dksX5_isOff_5 14 rfl rfl)
theorem dX5_isOff_132 : decode cX5_isOff 132 = .ok (.ireturn, 1) := dk_172 (dk_at dksX5_isOff_5 15 rfl rfl)
theorem dX5_isOff_133 : decode cX5_isOff 133 = .ok (.iinc 4 1, 3) := dk_132 4 1 (dk_at dksX5_isOff_5 16 rfl rfl)
theorem dX5_isOff_136 : decode cX5_isOff 136 = .ok (.goto (-133), 3) := dk_167 255 123 (dk_at dksX5_isOff_5 19 rfl rfl)
theorem dX5_isOff_139 : decode cX5_isOff 139 = .ok (.iconst 0, 1) := dk_3 (dk_at dksX5_isOff_5 22 rfl rfl)
theorem dX5_isOff_140 : decode cX5_isOff 140 = .ok (.ireturn, 1) := dk_172 (dk_at dksX5_isOff_5 23 rfl rfl)
abbrev cX5_dayNow : ByteArray := prog_26_method_34_code
def yX5_dayNow : MethodName := ⟨RX5, "dayNow", "()I"⟩
def dkwX5_dayNow_0 : List UInt8 := [42, 180, 0, 33, 16, 106, 46, 42, 180, 0, 33, 3, 46, 108, 172]
abbrev dktX5_dayNow_0 : List UInt8 := dkwX5_dayNow_0 ++ []
theorem dksX5_dayNow_0 : cX5_dayNow.data.toList.drop 0 = dktX5_dayNow_0 := by decide +kernel
theorem dX5_dayNow_0 : decode cX5_dayNow 0 = .ok (.aload_n 0, 1) := dk_42 (dk_at dksX5_dayNow_0 0 rfl rfl)
theorem dX5_dayNow_1 : decode cX5_dayNow 1 = .ok (.getfield 33, 3) := dk_180 0 33 (dk_at dksX5_dayNow_0 1 rfl rfl)
theorem dX5_dayNow_4 : decode cX5_dayNow 4 = .ok (.bipush 106, 2) := dk_16 106 (dk_at dksX5_dayNow_0 4 rfl rfl)
theorem dX5_dayNow_6 : decode cX5_dayNow 6 = .ok (.iaload, 1) := dk_46 (dk_at dksX5_dayNow_0 6 rfl rfl)
theorem dX5_dayNow_7 : decode cX5_dayNow 7 = .ok (.aload_n 0, 1) := dk_42 (dk_at dksX5_dayNow_0 7 rfl rfl)
theorem dX5_dayNow_8 : decode cX5_dayNow 8 = .ok (.getfield 33, 3) := dk_180 0 33 (dk_at dksX5_dayNow_0 8 rfl rfl)
theorem dX5_dayNow_11 : decode cX5_dayNow 11 = .ok (.iconst 0, 1) := dk_3 (dk_at dksX5_dayNow_0 11 rfl rfl)
theorem dX5_dayNow_12 : decode cX5_dayNow 12 = .ok (.iaload, 1) := dk_46 (dk_at dksX5_dayNow_0 12 rfl rfl)
theorem dX5_dayNow_13 : decode cX5_dayNow 13 = .ok (.idiv, 1) := dk_108 (dk_at dksX5_dayNow_0 13 rfl rfl)
theorem dX5_dayNow_14 : decode cX5_dayNow 14 = .ok (.ireturn, 1) := dk_172 (dk_at dksX5_dayNow_0 14 rfl rfl)
abbrev cX5_whyGo : ByteArray := prog_26_method_48_code
def yX5_whyGo : MethodName := ⟨RX5, "whyGo", "(II)I"⟩
def dkwX5_whyGo_1 : List UInt8 := [182, 1, 10, 167, 0, 4, 2, 172]
abbrev dktX5_whyGo_1 : List UInt8 := dkwX5_whyGo_1 ++ []
def dkwX5_whyGo_0 : List UInt8 := [42, 3, 181, 0, 1, 42, 27, 182, 0, 251, 153, 0, 20, 42, 28, 182, 0, 254, 153, 0, 12, 42, 27, 28]
abbrev dktX5_whyGo_0 : List UInt8 := dkwX5_whyGo_0 ++ dktX5_whyGo_1
theorem dksX5_whyGo_0 : cX5_whyGo.data.toList.drop 0 = dktX5_whyGo_0 := by decide +kernel
theorem dksX5_whyGo_1 : cX5_whyGo.data.toList.drop 24 = dktX5_whyGo_1 := dk_seg dksX5_whyGo_0 24 rfl rfl
theorem dX5_whyGo_0 : decode cX5_whyGo 0 = .ok (.aload_n 0, 1) := dk_42 (dk_at dksX5_whyGo_0 0 rfl rfl)
theorem dX5_whyGo_1 : decode cX5_whyGo 1 = .ok (.iconst 0, 1) := dk_3 (dk_at dksX5_whyGo_0 1 rfl rfl)
theorem dX5_whyGo_2 : decode cX5_whyGo 2 = .ok (.putfield 1, 3) := dk_181 0 1 (dk_at dksX5_whyGo_0 2 rfl rfl)
theorem dX5_whyGo_5 : decode cX5_whyGo 5 = .ok (.aload_n 0, 1) := dk_42 (dk_at dksX5_whyGo_0 5 rfl rfl)
theorem dX5_whyGo_6 : decode cX5_whyGo 6 = .ok (.iload_n 1, 1) := dk_27 (dk_at dksX5_whyGo_0 6 rfl rfl)
theorem dX5_whyGo_7 : decode cX5_whyGo 7 = .ok (.invokevirtual 251, 3) := dk_182 0 251 (dk_at dksX5_whyGo_0 7 rfl rfl)
theorem dX5_whyGo_10 : decode cX5_whyGo 10 = .ok (.ifCond .eq 20, 3) := dk_153 0 20 (dk_at dksX5_whyGo_0 10 rfl rfl)
theorem dX5_whyGo_13 : decode cX5_whyGo 13 = .ok (.aload_n 0, 1) := dk_42 (dk_at dksX5_whyGo_0 13 rfl rfl)
theorem dX5_whyGo_14 : decode cX5_whyGo 14 = .ok (.iload_n 2, 1) := dk_28 (dk_at dksX5_whyGo_0 14 rfl rfl)
theorem dX5_whyGo_15 : decode cX5_whyGo 15 = .ok (.invokevirtual 254, 3) := dk_182 0 254 (dk_at dksX5_whyGo_0 15 rfl rfl)
theorem dX5_whyGo_18 : decode cX5_whyGo 18 = .ok (.ifCond .eq 12, 3) := dk_153 0 12 (dk_at dksX5_whyGo_0 18 rfl rfl)
theorem dX5_whyGo_21 : decode cX5_whyGo 21 = .ok (.aload_n 0, 1) := dk_42 (dk_at dksX5_whyGo_0 21 rfl rfl)
theorem dX5_whyGo_22 : decode cX5_whyGo 22 = .ok (.iload_n 1, 1) := dk_27 (dk_at dksX5_whyGo_0 22 rfl rfl)
theorem dX5_whyGo_23 : decode cX5_whyGo 23 = .ok (.iload_n 2, 1) := dk_28 (dk_at dksX5_whyGo_0 23 rfl rfl)
theorem dX5_whyGo_24 : decode cX5_whyGo 24 = .ok (.invokevirtual 266, 3) := dk_182 1 10 (dk_at dksX5_whyGo_1 0 rfl rfl)
theorem dX5_whyGo_27 : decode cX5_whyGo 27 = .ok (.goto 4, 3) := dk_167 0 4 (dk_at dksX5_whyGo_1 3 rfl rfl)
theorem dX5_whyGo_30 : decode cX5_whyGo 30 = .ok (.iconst (-1), 1) := dk_2 (dk_at dksX5_whyGo_1 6 rfl rfl)
theorem dX5_whyGo_31 : decode cX5_whyGo 31 = .ok (.ireturn, 1) := dk_172 (dk_at dksX5_whyGo_1 7 rfl rfl)
abbrev cX5_whyGoOf : ByteArray := prog_26_method_41_code
def yX5_whyGoOf : MethodName := ⟨RX5, "whyGoOf", "(II)I"⟩
def dkwX5_whyGoOf_2 : List UInt8 := [182, 1, 7, 153, 0, 7, 6, 167, 0, 4, 3, 172]
abbrev dktX5_whyGoOf_2 : List UInt8 := dkwX5_whyGoOf_2 ++ []
def dkwX5_whyGoOf_1 : List UInt8 := [180, 0, 33, 16, 107, 27, 96, 46, 96, 46, 28, 184, 0, 223, 154, 0, 7, 5, 167, 0, 15, 42]
abbrev dktX5_whyGoOf_1 : List UInt8 := dkwX5_whyGoOf_1 ++ dktX5_whyGoOf_2
def dkwX5_whyGoOf_0 : List UInt8 := [42, 180, 0, 33, 16, 111, 27, 96, 46, 4, 160, 0, 7, 4, 167, 0, 43, 42, 180, 0, 33, 16, 8, 42]
abbrev dktX5_whyGoOf_0 : List UInt8 := dkwX5_whyGoOf_0 ++ dktX5_whyGoOf_1
theorem dksX5_whyGoOf_0 : cX5_whyGoOf.data.toList.drop 0 = dktX5_whyGoOf_0 := by decide +kernel
theorem dksX5_whyGoOf_1 : cX5_whyGoOf.data.toList.drop 24 = dktX5_whyGoOf_1 := dk_seg dksX5_whyGoOf_0 24 rfl rfl
theorem dksX5_whyGoOf_2 : cX5_whyGoOf.data.toList.drop 46 = dktX5_whyGoOf_2 := dk_seg dksX5_whyGoOf_1 22 rfl rfl
theorem dX5_whyGoOf_0 : decode cX5_whyGoOf 0 = .ok (.aload_n 0, 1) := dk_42 (dk_at dksX5_whyGoOf_0 0 rfl rfl)
theorem dX5_whyGoOf_1 : decode cX5_whyGoOf 1 = .ok (.getfield 33, 3) := dk_180 0 33 (dk_at dksX5_whyGoOf_0 1 rfl rfl)
theorem dX5_whyGoOf_4 : decode cX5_whyGoOf 4 = .ok (.bipush 111, 2) := dk_16 111 (dk_at dksX5_whyGoOf_0 4 rfl rfl)
theorem dX5_whyGoOf_6 : decode cX5_whyGoOf 6 = .ok (.iload_n 1, 1) := dk_27 (dk_at dksX5_whyGoOf_0 6 rfl rfl)
theorem dX5_whyGoOf_7 : decode cX5_whyGoOf 7 = .ok (.iadd, 1) := dk_96 (dk_at dksX5_whyGoOf_0 7 rfl rfl)
theorem dX5_whyGoOf_8 : decode cX5_whyGoOf 8 = .ok (.iaload, 1) := dk_46 (dk_at dksX5_whyGoOf_0 8 rfl rfl)
theorem dX5_whyGoOf_9 : decode cX5_whyGoOf 9 = .ok (.iconst 1, 1) := dk_4 (dk_at dksX5_whyGoOf_0 9 rfl rfl)
theorem dX5_whyGoOf_10 : decode cX5_whyGoOf 10 = .ok (.if_icmp .ne 7, 3) := dk_160 0 7 (dk_at dksX5_whyGoOf_0 10 rfl rfl)
theorem dX5_whyGoOf_13 : decode cX5_whyGoOf 13 = .ok (.iconst 1, 1) := dk_4 (dk_at dksX5_whyGoOf_0 13 rfl rfl)
theorem dX5_whyGoOf_14 : decode cX5_whyGoOf 14 = .ok (.goto 43, 3) := dk_167 0 43 (dk_at dksX5_whyGoOf_0 14 rfl rfl)
theorem dX5_whyGoOf_17 : decode cX5_whyGoOf 17 = .ok (.aload_n 0, 1) := dk_42 (dk_at dksX5_whyGoOf_0 17 rfl rfl)
theorem dX5_whyGoOf_18 : decode cX5_whyGoOf 18 = .ok (.getfield 33, 3) := dk_180 0 33 (dk_at dksX5_whyGoOf_0 18 rfl rfl)
theorem dX5_whyGoOf_21 : decode cX5_whyGoOf 21 = .ok (.bipush 8, 2) := dk_16 8 (dk_at dksX5_whyGoOf_0 21 rfl rfl)
theorem dX5_whyGoOf_23 : decode cX5_whyGoOf 23 = .ok (.aload_n 0, 1) := dk_42 (dk_at dksX5_whyGoOf_0 23 rfl rfl)
theorem dX5_whyGoOf_24 : decode cX5_whyGoOf 24 = .ok (.getfield 33, 3) := dk_180 0 33 (dk_at dksX5_whyGoOf_1 0 rfl rfl)
theorem dX5_whyGoOf_27 : decode cX5_whyGoOf 27 = .ok (.bipush 107, 2) := dk_16 107 (dk_at dksX5_whyGoOf_1 3 rfl rfl)
theorem dX5_whyGoOf_29 : decode cX5_whyGoOf 29 = .ok (.iload_n 1, 1) := dk_27 (dk_at dksX5_whyGoOf_1 5 rfl rfl)
theorem dX5_whyGoOf_30 : decode cX5_whyGoOf 30 = .ok (.iadd, 1) := dk_96 (dk_at dksX5_whyGoOf_1 6 rfl rfl)
theorem dX5_whyGoOf_31 : decode cX5_whyGoOf 31 = .ok (.iaload, 1) := dk_46 (dk_at dksX5_whyGoOf_1 7 rfl rfl)
theorem dX5_whyGoOf_32 : decode cX5_whyGoOf 32 = .ok (.iadd, 1) := dk_96 (dk_at dksX5_whyGoOf_1 8 rfl rfl)
theorem dX5_whyGoOf_33 : decode cX5_whyGoOf 33 = .ok (.iaload, 1) := dk_46 (dk_at dksX5_whyGoOf_1 9 rfl rfl)
theorem dX5_whyGoOf_34 : decode cX5_whyGoOf 34 = .ok (.iload_n 2, 1) := dk_28 (dk_at dksX5_whyGoOf_1 10 rfl rfl)
theorem dX5_whyGoOf_35 : decode cX5_whyGoOf 35 = .ok (.invokestatic 223, 3) := dk_184 0 223 (dk_at dksX5_whyGoOf_1 11 rfl rfl)
theorem dX5_whyGoOf_38 : decode cX5_whyGoOf 38 = .ok (.ifCond .ne 7, 3) := dk_154 0 7 (dk_at dksX5_whyGoOf_1 14 rfl rfl)
theorem dX5_whyGoOf_41 : decode cX5_whyGoOf 41 = .ok (.iconst 2, 1) := dk_5 (dk_at dksX5_whyGoOf_1 17 rfl rfl)
theorem dX5_whyGoOf_42 : decode cX5_whyGoOf 42 = .ok (.goto 15, 3) := dk_167 0 15 (dk_at dksX5_whyGoOf_1 18 rfl rfl)
theorem dX5_whyGoOf_45 : decode cX5_whyGoOf 45 = .ok (.aload_n 0, 1) := dk_42 (dk_at dksX5_whyGoOf_1 21 rfl rfl)
theorem dX5_whyGoOf_46 : decode cX5_whyGoOf 46 = .ok (.invokevirtual 263, 3) := dk_182 1 7 (dk_at dksX5_whyGoOf_2 0 rfl rfl)
theorem dX5_whyGoOf_49 : decode cX5_whyGoOf 49 = .ok (.ifCond .eq 7, 3) := dk_153 0 7 (dk_at dksX5_whyGoOf_2 3 rfl rfl)
theorem dX5_whyGoOf_52 : decode cX5_whyGoOf 52 = .ok (.iconst 3, 1) := dk_6 (dk_at dksX5_whyGoOf_2 6 rfl rfl)
theorem dX5_whyGoOf_53 : decode cX5_whyGoOf 53 = .ok (.goto 4, 3) := dk_167 0 4 (dk_at dksX5_whyGoOf_2 7 rfl rfl)
theorem dX5_whyGoOf_56 : decode cX5_whyGoOf 56 = .ok (.iconst 0, 1) := dk_3 (dk_at dksX5_whyGoOf_2 10 rfl rfl)
theorem dX5_whyGoOf_57 : decode cX5_whyGoOf 57 = .ok (.ireturn, 1) := dk_172 (dk_at dksX5_whyGoOf_2 11 rfl rfl)
abbrev cX5_isOver : ByteArray := prog_26_method_40_code
def yX5_isOver : MethodName := ⟨RX5, "isOver", "()Z"⟩
def dkwX5_isOver_1 : List UInt8 := [172]
abbrev dktX5_isOver_1 : List UInt8 := dkwX5_isOver_1 ++ []
def dkwX5_isOver_0 : List UInt8 := [42, 180, 0, 33, 16, 106, 46, 16, 20, 42, 180, 0, 33, 3, 46, 104, 160, 0, 7, 4, 167, 0, 4, 3]
abbrev dktX5_isOver_0 : List UInt8 := dkwX5_isOver_0 ++ dktX5_isOver_1
theorem dksX5_isOver_0 : cX5_isOver.data.toList.drop 0 = dktX5_isOver_0 := by decide +kernel
theorem dksX5_isOver_1 : cX5_isOver.data.toList.drop 24 = dktX5_isOver_1 := dk_seg dksX5_isOver_0 24 rfl rfl
theorem dX5_isOver_0 : decode cX5_isOver 0 = .ok (.aload_n 0, 1) := dk_42 (dk_at dksX5_isOver_0 0 rfl rfl)
theorem dX5_isOver_1 : decode cX5_isOver 1 = .ok (.getfield 33, 3) := dk_180 0 33 (dk_at dksX5_isOver_0 1 rfl rfl)
theorem dX5_isOver_4 : decode cX5_isOver 4 = .ok (.bipush 106, 2) := dk_16 106 (dk_at dksX5_isOver_0 4 rfl rfl)
theorem dX5_isOver_6 : decode cX5_isOver 6 = .ok (.iaload, 1) := dk_46 (dk_at dksX5_isOver_0 6 rfl rfl)
theorem dX5_isOver_7 : decode cX5_isOver 7 = .ok (.bipush 20, 2) := dk_16 20 (dk_at dksX5_isOver_0 7 rfl rfl)
theorem dX5_isOver_9 : decode cX5_isOver 9 = .ok (.aload_n 0, 1) := dk_42 (dk_at dksX5_isOver_0 9 rfl rfl)
theorem dX5_isOver_10 : decode cX5_isOver 10 = .ok (.getfield 33, 3) := dk_180 0 33 (dk_at dksX5_isOver_0 10 rfl rfl)
theorem dX5_isOver_13 : decode cX5_isOver 13 = .ok (.iconst 0, 1) := dk_3 (dk_at dksX5_isOver_0 13 rfl rfl)
theorem dX5_isOver_14 : decode cX5_isOver 14 = .ok (.iaload, 1) := dk_46 (dk_at dksX5_isOver_0 14 rfl rfl)
theorem dX5_isOver_15 : decode cX5_isOver 15 = .ok (.imul, 1) := dk_104 (dk_at dksX5_isOver_0 15 rfl rfl)
theorem dX5_isOver_16 : decode cX5_isOver 16 = .ok (.if_icmp .ne 7, 3) := dk_160 0 7 (dk_at dksX5_isOver_0 16 rfl rfl)
theorem dX5_isOver_19 : decode cX5_isOver 19 = .ok (.iconst 1, 1) := dk_4 (dk_at dksX5_isOver_0 19 rfl rfl)
theorem dX5_isOver_20 : decode cX5_isOver 20 = .ok (.goto 4, 3) := dk_167 0 4 (dk_at dksX5_isOver_0 20 rfl rfl)
theorem dX5_isOver_23 : decode cX5_isOver 23 = .ok (.iconst 0, 1) := dk_3 (dk_at dksX5_isOver_0 23 rfl rfl)
theorem dX5_isOver_24 : decode cX5_isOver 24 = .ok (.ireturn, 1) := dk_172 (dk_at dksX5_isOver_1 0 rfl rfl)
abbrev cX5_go : ByteArray := prog_26_method_49_code
def yX5_go : MethodName := ⟨RX5, "go", "(II)I"⟩
def dkwX5_go_1 : List UInt8 := [27, 28, 182, 1, 10, 62, 29, 158, 0, 5, 29, 172, 42, 182, 1, 13, 42, 27, 28, 182, 1, 16, 3, 172]
abbrev dktX5_go_1 : List UInt8 := dkwX5_go_1 ++ []
def dkwX5_go_0 : List UInt8 := [42, 3, 181, 0, 1, 42, 27, 182, 0, 251, 153, 0, 11, 42, 28, 182, 0, 254, 154, 0, 5, 2, 172, 42]
abbrev dktX5_go_0 : List UInt8 := dkwX5_go_0 ++ dktX5_go_1
theorem dksX5_go_0 : cX5_go.data.toList.drop 0 = dktX5_go_0 := by decide +kernel
theorem dksX5_go_1 : cX5_go.data.toList.drop 24 = dktX5_go_1 := dk_seg dksX5_go_0 24 rfl rfl
theorem dX5_go_0 : decode cX5_go 0 = .ok (.aload_n 0, 1) := dk_42 (dk_at dksX5_go_0 0 rfl rfl)
theorem dX5_go_1 : decode cX5_go 1 = .ok (.iconst 0, 1) := dk_3 (dk_at dksX5_go_0 1 rfl rfl)
theorem dX5_go_2 : decode cX5_go 2 = .ok (.putfield 1, 3) := dk_181 0 1 (dk_at dksX5_go_0 2 rfl rfl)
theorem dX5_go_5 : decode cX5_go 5 = .ok (.aload_n 0, 1) := dk_42 (dk_at dksX5_go_0 5 rfl rfl)
theorem dX5_go_6 : decode cX5_go 6 = .ok (.iload_n 1, 1) := dk_27 (dk_at dksX5_go_0 6 rfl rfl)
theorem dX5_go_7 : decode cX5_go 7 = .ok (.invokevirtual 251, 3) := dk_182 0 251 (dk_at dksX5_go_0 7 rfl rfl)
theorem dX5_go_10 : decode cX5_go 10 = .ok (.ifCond .eq 11, 3) := dk_153 0 11 (dk_at dksX5_go_0 10 rfl rfl)
theorem dX5_go_13 : decode cX5_go 13 = .ok (.aload_n 0, 1) := dk_42 (dk_at dksX5_go_0 13 rfl rfl)
theorem dX5_go_14 : decode cX5_go 14 = .ok (.iload_n 2, 1) := dk_28 (dk_at dksX5_go_0 14 rfl rfl)
theorem dX5_go_15 : decode cX5_go 15 = .ok (.invokevirtual 254, 3) := dk_182 0 254 (dk_at dksX5_go_0 15 rfl rfl)
theorem dX5_go_18 : decode cX5_go 18 = .ok (.ifCond .ne 5, 3) := dk_154 0 5 (dk_at dksX5_go_0 18 rfl rfl)
theorem dX5_go_21 : decode cX5_go 21 = .ok (.iconst (-1), 1) := dk_2 (dk_at dksX5_go_0 21 rfl rfl)
theorem dX5_go_22 : decode cX5_go 22 = .ok (.ireturn, 1) := dk_172 (dk_at dksX5_go_0 22 rfl rfl)
theorem dX5_go_23 : decode cX5_go 23 = .ok (.aload_n 0, 1) := dk_42 (dk_at dksX5_go_0 23 rfl rfl)
theorem dX5_go_24 : decode cX5_go 24 = .ok (.iload_n 1, 1) := dk_27 (dk_at dksX5_go_1 0 rfl rfl)
theorem dX5_go_25 : decode cX5_go 25 = .ok (.iload_n 2, 1) := dk_28 (dk_at dksX5_go_1 1 rfl rfl)
theorem dX5_go_26 : decode cX5_go 26 = .ok (.invokevirtual 266, 3) := dk_182 1 10 (dk_at dksX5_go_1 2 rfl rfl)
theorem dX5_go_29 : decode cX5_go 29 = .ok (.istore_n 3, 1) := dk_62 (dk_at dksX5_go_1 5 rfl rfl)
theorem dX5_go_30 : decode cX5_go 30 = .ok (.iload_n 3, 1) := dk_29 (dk_at dksX5_go_1 6 rfl rfl)
theorem dX5_go_31 : decode cX5_go 31 = .ok (.ifCond .le 5, 3) := dk_158 0 5 (dk_at dksX5_go_1 7 rfl rfl)
theorem dX5_go_34 : decode cX5_go 34 = .ok (.iload_n 3, 1) := dk_29 (dk_at dksX5_go_1 10 rfl rfl)
theorem dX5_go_35 : decode cX5_go 35 = .ok (.ireturn, 1) := dk_172 (dk_at dksX5_go_1 11 rfl rfl)
theorem dX5_go_36 : decode cX5_go 36 = .ok (.aload_n 0, 1) := dk_42 (dk_at dksX5_go_1 12 rfl rfl)
theorem dX5_go_37 : decode cX5_go 37 = .ok (.invokevirtual 269, 3) := dk_182 1 13 (dk_at dksX5_go_1 13 rfl rfl)
theorem dX5_go_40 : decode cX5_go 40 = .ok (.aload_n 0, 1) := dk_42 (dk_at dksX5_go_1 16 rfl rfl)
theorem dX5_go_41 : decode cX5_go 41 = .ok (.iload_n 1, 1) := dk_27 (dk_at dksX5_go_1 17 rfl rfl)
theorem dX5_go_42 : decode cX5_go 42 = .ok (.iload_n 2, 1) := dk_28 (dk_at dksX5_go_1 18 rfl rfl)
theorem dX5_go_43 : decode cX5_go 43 = .ok (.invokevirtual 272, 3) := dk_182 1 16 (dk_at dksX5_go_1 19 rfl rfl)
theorem dX5_go_46 : decode cX5_go 46 = .ok (.iconst 0, 1) := dk_3 (dk_at dksX5_go_1 22 rfl rfl)
theorem dX5_go_47 : decode cX5_go 47 = .ok (.ireturn, 1) := dk_172 (dk_at dksX5_go_1 23 rfl rfl)
abbrev cX5_keep : ByteArray := prog_26_method_54_code
def yX5_keep : MethodName := ⟨RX5, "keep", "()V"⟩
def dkwX5_keep_4 : List UInt8 := [181, 0, 241, 177]
abbrev dktX5_keep_4 : List UInt8 := dkwX5_keep_4 ++ []
def dkwX5_keep_3 : List UInt8 := [180, 0, 33, 16, 106, 27, 96, 46, 79, 132, 1, 1, 167, 255, 222, 42, 89, 180, 0, 241, 4, 96]
abbrev dktX5_keep_3 : List UInt8 := dkwX5_keep_3 ++ dktX5_keep_4
def dkwX5_keep_2 : List UInt8 := [27, 17, 1, 114, 162, 0, 33, 42, 180, 0, 53, 17, 1, 114, 42, 180, 0, 241, 104, 27, 96, 42]
abbrev dktX5_keep_2 : List UInt8 := dkwX5_keep_2 ++ dktX5_keep_3
def dkwX5_keep_1 : List UInt8 := [180, 0, 53, 27, 17, 1, 114, 96, 46, 79, 132, 1, 1, 167, 255, 230, 42, 16, 7, 181, 0, 241, 3, 60]
abbrev dktX5_keep_1 : List UInt8 := dkwX5_keep_1 ++ dktX5_keep_2
def dkwX5_keep_0 : List UInt8 := [42, 180, 0, 241, 16, 8, 160, 0, 40, 3, 60, 27, 17, 10, 30, 162, 0, 25, 42, 180, 0, 53, 27, 42]
abbrev dktX5_keep_0 : List UInt8 := dkwX5_keep_0 ++ dktX5_keep_1
theorem dksX5_keep_0 : cX5_keep.data.toList.drop 0 = dktX5_keep_0 := by decide +kernel
theorem dksX5_keep_1 : cX5_keep.data.toList.drop 24 = dktX5_keep_1 := dk_seg dksX5_keep_0 24 rfl rfl
theorem dksX5_keep_2 : cX5_keep.data.toList.drop 48 = dktX5_keep_2 := dk_seg dksX5_keep_1 24 rfl rfl
theorem dksX5_keep_3 : cX5_keep.data.toList.drop 70 = dktX5_keep_3 := dk_seg dksX5_keep_2 22 rfl rfl
theorem dksX5_keep_4 : cX5_keep.data.toList.drop 92 = dktX5_keep_4 := dk_seg dksX5_keep_3 22 rfl rfl
theorem dX5_keep_0 : decode cX5_keep 0 = .ok (.aload_n 0, 1) := dk_42 (dk_at dksX5_keep_0 0 rfl rfl)
theorem dX5_keep_1 : decode cX5_keep 1 = .ok (.getfield 241, 3) := dk_180 0 241 (dk_at dksX5_keep_0 1 rfl rfl)
theorem dX5_keep_4 : decode cX5_keep 4 = .ok (.bipush 8, 2) := dk_16 8 (dk_at dksX5_keep_0 4 rfl rfl)
theorem dX5_keep_6 : decode cX5_keep 6 = .ok (.if_icmp .ne 40, 3) := dk_160 0 40 (dk_at dksX5_keep_0 6 rfl rfl)
theorem dX5_keep_9 : decode cX5_keep 9 = .ok (.iconst 0, 1) := dk_3 (dk_at dksX5_keep_0 9 rfl rfl)
theorem dX5_keep_10 : decode cX5_keep 10 = .ok (.istore_n 1, 1) := dk_60 (dk_at dksX5_keep_0 10 rfl rfl)
theorem dX5_keep_11 : decode cX5_keep 11 = .ok (.iload_n 1, 1) := dk_27 (dk_at dksX5_keep_0 11 rfl rfl)
theorem dX5_keep_12 : decode cX5_keep 12 = .ok (.sipush 2590, 3) := dk_17 10 30 (dk_at dksX5_keep_0 12 rfl rfl)
theorem dX5_keep_15 : decode cX5_keep 15 = .ok (.if_icmp .ge 25, 3) := dk_162 0 25 (dk_at dksX5_keep_0 15 rfl rfl)
theorem dX5_keep_18 : decode cX5_keep 18 = .ok (.aload_n 0, 1) := dk_42 (dk_at dksX5_keep_0 18 rfl rfl)
theorem dX5_keep_19 : decode cX5_keep 19 = .ok (.getfield 53, 3) := dk_180 0 53 (dk_at dksX5_keep_0 19 rfl rfl)
theorem dX5_keep_22 : decode cX5_keep 22 = .ok (.iload_n 1, 1) := dk_27 (dk_at dksX5_keep_0 22 rfl rfl)
theorem dX5_keep_23 : decode cX5_keep 23 = .ok (.aload_n 0, 1) := dk_42 (dk_at dksX5_keep_0 23 rfl rfl)
theorem dX5_keep_24 : decode cX5_keep 24 = .ok (.getfield 53, 3) := dk_180 0 53 (dk_at dksX5_keep_1 0 rfl rfl)
theorem dX5_keep_27 : decode cX5_keep 27 = .ok (.iload_n 1, 1) := dk_27 (dk_at dksX5_keep_1 3 rfl rfl)
theorem dX5_keep_28 : decode cX5_keep 28 = .ok (.sipush 370, 3) := dk_17 1 114 (dk_at dksX5_keep_1 4 rfl rfl)
theorem dX5_keep_31 : decode cX5_keep 31 = .ok (.iadd, 1) := dk_96 (dk_at dksX5_keep_1 7 rfl rfl)
theorem dX5_keep_32 : decode cX5_keep 32 = .ok (.iaload, 1) := dk_46 (dk_at dksX5_keep_1 8 rfl rfl)
theorem dX5_keep_33 : decode cX5_keep 33 = .ok (.iastore, 1) := dk_79 (dk_at dksX5_keep_1 9 rfl rfl)
theorem dX5_keep_34 : decode cX5_keep 34 = .ok (.iinc 1 1, 3) := dk_132 1 1 (dk_at dksX5_keep_1 10 rfl rfl)
theorem dX5_keep_37 : decode cX5_keep 37 = .ok (.goto (-26), 3) := dk_167 255 230 (dk_at dksX5_keep_1 13 rfl rfl)
theorem dX5_keep_40 : decode cX5_keep 40 = .ok (.aload_n 0, 1) := dk_42 (dk_at dksX5_keep_1 16 rfl rfl)
theorem dX5_keep_41 : decode cX5_keep 41 = .ok (.bipush 7, 2) := dk_16 7 (dk_at dksX5_keep_1 17 rfl rfl)
theorem dX5_keep_43 : decode cX5_keep 43 = .ok (.putfield 241, 3) := dk_181 0 241 (dk_at dksX5_keep_1 19 rfl rfl)
theorem dX5_keep_46 : decode cX5_keep 46 = .ok (.iconst 0, 1) := dk_3 (dk_at dksX5_keep_1 22 rfl rfl)
theorem dX5_keep_47 : decode cX5_keep 47 = .ok (.istore_n 1, 1) := dk_60 (dk_at dksX5_keep_1 23 rfl rfl)
theorem dX5_keep_48 : decode cX5_keep 48 = .ok (.iload_n 1, 1) := dk_27 (dk_at dksX5_keep_2 0 rfl rfl)
theorem dX5_keep_49 : decode cX5_keep 49 = .ok (.sipush 370, 3) := dk_17 1 114 (dk_at dksX5_keep_2 1 rfl rfl)
theorem dX5_keep_52 : decode cX5_keep 52 = .ok (.if_icmp .ge 33, 3) := dk_162 0 33 (dk_at dksX5_keep_2 4 rfl rfl)
theorem dX5_keep_55 : decode cX5_keep 55 = .ok (.aload_n 0, 1) := dk_42 (dk_at dksX5_keep_2 7 rfl rfl)
theorem dX5_keep_56 : decode cX5_keep 56 = .ok (.getfield 53, 3) := dk_180 0 53 (dk_at dksX5_keep_2 8 rfl rfl)
theorem dX5_keep_59 : decode cX5_keep 59 = .ok (.sipush 370, 3) := dk_17 1 114 (dk_at dksX5_keep_2 11 rfl rfl)
theorem dX5_keep_62 : decode cX5_keep 62 = .ok (.aload_n 0, 1) := dk_42 (dk_at dksX5_keep_2 14 rfl rfl)
theorem dX5_keep_63 : decode cX5_keep 63 = .ok (.getfield 241, 3) := dk_180 0 241 (dk_at dksX5_keep_2 15 rfl rfl)
theorem dX5_keep_66 : decode cX5_keep 66 = .ok (.imul, 1) := dk_104 (dk_at dksX5_keep_2 18 rfl rfl)
theorem dX5_keep_67 : decode cX5_keep 67 = .ok (.iload_n 1, 1) := dk_27 (dk_at dksX5_keep_2 19 rfl rfl)
theorem dX5_keep_68 : decode cX5_keep 68 = .ok (.iadd, 1) := dk_96 (dk_at dksX5_keep_2 20 rfl rfl)
theorem dX5_keep_69 : decode cX5_keep 69 = .ok (.aload_n 0, 1) := dk_42 (dk_at dksX5_keep_2 21 rfl rfl)
theorem dX5_keep_70 : decode cX5_keep 70 = .ok (.getfield 33, 3) := dk_180 0 33 (dk_at dksX5_keep_3 0 rfl rfl)
theorem dX5_keep_73 : decode cX5_keep 73 = .ok (.bipush 106, 2) := dk_16 106 (dk_at dksX5_keep_3 3 rfl rfl)
theorem dX5_keep_75 : decode cX5_keep 75 = .ok (.iload_n 1, 1) := dk_27 (dk_at dksX5_keep_3 5 rfl rfl)
theorem dX5_keep_76 : decode cX5_keep 76 = .ok (.iadd, 1) := dk_96 (dk_at dksX5_keep_3 6 rfl rfl)
theorem dX5_keep_77 : decode cX5_keep 77 = .ok (.iaload, 1) := dk_46 (dk_at dksX5_keep_3 7 rfl rfl)
theorem dX5_keep_78 : decode cX5_keep 78 = .ok (.iastore, 1) := dk_79 (dk_at dksX5_keep_3 8 rfl rfl)
theorem dX5_keep_79 : decode cX5_keep 79 = .ok (.iinc 1 1, 3) := dk_132 1 1 (dk_at dksX5_keep_3 9 rfl rfl)
theorem dX5_keep_82 : decode cX5_keep 82 = .ok (.goto (-34), 3) := dk_167 255 222 (dk_at dksX5_keep_3 12 rfl rfl)
theorem dX5_keep_85 : decode cX5_keep 85 = .ok (.aload_n 0, 1) := dk_42 (dk_at dksX5_keep_3 15 rfl rfl)
theorem dX5_keep_86 : decode cX5_keep 86 = .ok (.dup, 1) := dk_89 (dk_at dksX5_keep_3 16 rfl rfl)
theorem dX5_keep_87 : decode cX5_keep 87 = .ok (.getfield 241, 3) := dk_180 0 241 (dk_at dksX5_keep_3 17 rfl rfl)
theorem dX5_keep_90 : decode cX5_keep 90 = .ok (.iconst 1, 1) := dk_4 (dk_at dksX5_keep_3 20 rfl rfl)
theorem dX5_keep_91 : decode cX5_keep 91 = .ok (.iadd, 1) := dk_96 (dk_at dksX5_keep_3 21 rfl rfl)
theorem dX5_keep_92 : decode cX5_keep 92 = .ok (.putfield 241, 3) := dk_181 0 241 (dk_at dksX5_keep_4 0 rfl rfl)
theorem dX5_keep_95 : decode cX5_keep 95 = .ok (.return_, 1) := dk_177 (dk_at dksX5_keep_4 3 rfl rfl)
abbrev cX5_goes : ByteArray := prog_26_method_44_code
def yX5_goes : MethodName := ⟨RX5, "goes", "(II)V"⟩
def dkwX5_goes_1 : List UInt8 := [16, 119, 27, 96, 92, 46, 4, 96, 79, 177]
abbrev dktX5_goes_1 : List UInt8 := dkwX5_goes_1 ++ []
def dkwX5_goes_0 : List UInt8 := [42, 180, 0, 33, 16, 107, 27, 96, 28, 79, 42, 180, 0, 33, 16, 111, 27, 96, 4, 79, 42, 180, 0, 33]
abbrev dktX5_goes_0 : List UInt8 := dkwX5_goes_0 ++ dktX5_goes_1
theorem dksX5_goes_0 : cX5_goes.data.toList.drop 0 = dktX5_goes_0 := by decide +kernel
theorem dksX5_goes_1 : cX5_goes.data.toList.drop 24 = dktX5_goes_1 := dk_seg dksX5_goes_0 24 rfl rfl
theorem dX5_goes_0 : decode cX5_goes 0 = .ok (.aload_n 0, 1) := dk_42 (dk_at dksX5_goes_0 0 rfl rfl)
theorem dX5_goes_1 : decode cX5_goes 1 = .ok (.getfield 33, 3) := dk_180 0 33 (dk_at dksX5_goes_0 1 rfl rfl)
theorem dX5_goes_4 : decode cX5_goes 4 = .ok (.bipush 107, 2) := dk_16 107 (dk_at dksX5_goes_0 4 rfl rfl)
theorem dX5_goes_6 : decode cX5_goes 6 = .ok (.iload_n 1, 1) := dk_27 (dk_at dksX5_goes_0 6 rfl rfl)
theorem dX5_goes_7 : decode cX5_goes 7 = .ok (.iadd, 1) := dk_96 (dk_at dksX5_goes_0 7 rfl rfl)
theorem dX5_goes_8 : decode cX5_goes 8 = .ok (.iload_n 2, 1) := dk_28 (dk_at dksX5_goes_0 8 rfl rfl)
theorem dX5_goes_9 : decode cX5_goes 9 = .ok (.iastore, 1) := dk_79 (dk_at dksX5_goes_0 9 rfl rfl)
theorem dX5_goes_10 : decode cX5_goes 10 = .ok (.aload_n 0, 1) := dk_42 (dk_at dksX5_goes_0 10 rfl rfl)
theorem dX5_goes_11 : decode cX5_goes 11 = .ok (.getfield 33, 3) := dk_180 0 33 (dk_at dksX5_goes_0 11 rfl rfl)
theorem dX5_goes_14 : decode cX5_goes 14 = .ok (.bipush 111, 2) := dk_16 111 (dk_at dksX5_goes_0 14 rfl rfl)
theorem dX5_goes_16 : decode cX5_goes 16 = .ok (.iload_n 1, 1) := dk_27 (dk_at dksX5_goes_0 16 rfl rfl)
theorem dX5_goes_17 : decode cX5_goes 17 = .ok (.iadd, 1) := dk_96 (dk_at dksX5_goes_0 17 rfl rfl)
theorem dX5_goes_18 : decode cX5_goes 18 = .ok (.iconst 1, 1) := dk_4 (dk_at dksX5_goes_0 18 rfl rfl)
theorem dX5_goes_19 : decode cX5_goes 19 = .ok (.iastore, 1) := dk_79 (dk_at dksX5_goes_0 19 rfl rfl)
theorem dX5_goes_20 : decode cX5_goes 20 = .ok (.aload_n 0, 1) := dk_42 (dk_at dksX5_goes_0 20 rfl rfl)
theorem dX5_goes_21 : decode cX5_goes 21 = .ok (.getfield 33, 3) := dk_180 0 33 (dk_at dksX5_goes_0 21 rfl rfl)
theorem dX5_goes_24 : decode cX5_goes 24 = .ok (.bipush 119, 2) := dk_16 119 (dk_at dksX5_goes_1 0 rfl rfl)
theorem dX5_goes_26 : decode cX5_goes 26 = .ok (.iload_n 1, 1) := dk_27 (dk_at dksX5_goes_1 2 rfl rfl)
theorem dX5_goes_27 : decode cX5_goes 27 = .ok (.iadd, 1) := dk_96 (dk_at dksX5_goes_1 3 rfl rfl)
theorem dX5_goes_28 : decode cX5_goes 28 = .ok (.dup2, 1) := dk_92 (dk_at dksX5_goes_1 4 rfl rfl)
theorem dX5_goes_29 : decode cX5_goes 29 = .ok (.iaload, 1) := dk_46 (dk_at dksX5_goes_1 5 rfl rfl)
theorem dX5_goes_30 : decode cX5_goes 30 = .ok (.iconst 1, 1) := dk_4 (dk_at dksX5_goes_1 6 rfl rfl)
theorem dX5_goes_31 : decode cX5_goes 31 = .ok (.iadd, 1) := dk_96 (dk_at dksX5_goes_1 7 rfl rfl)
theorem dX5_goes_32 : decode cX5_goes 32 = .ok (.iastore, 1) := dk_79 (dk_at dksX5_goes_1 8 rfl rfl)
theorem dX5_goes_33 : decode cX5_goes 33 = .ok (.return_, 1) := dk_177 (dk_at dksX5_goes_1 9 rfl rfl)
abbrev cX5_act : ByteArray := prog_26_method_50_code
def yX5_act : MethodName := ⟨RX5, "act", "(II)I"⟩
def dkwX5_act_1 : List UInt8 := [27, 182, 1, 23, 62, 29, 158, 0, 5, 29, 172, 42, 182, 1, 13, 42, 27, 28, 182, 1, 27, 3, 172]
abbrev dktX5_act_1 : List UInt8 := dkwX5_act_1 ++ []
def dkwX5_act_0 : List UInt8 := [42, 3, 181, 0, 1, 42, 27, 182, 0, 251, 153, 0, 11, 42, 28, 182, 1, 20, 154, 0, 5, 2, 172, 42]
abbrev dktX5_act_0 : List UInt8 := dkwX5_act_0 ++ dktX5_act_1
theorem dksX5_act_0 : cX5_act.data.toList.drop 0 = dktX5_act_0 := by decide +kernel
theorem dksX5_act_1 : cX5_act.data.toList.drop 24 = dktX5_act_1 := dk_seg dksX5_act_0 24 rfl rfl
theorem dX5_act_0 : decode cX5_act 0 = .ok (.aload_n 0, 1) := dk_42 (dk_at dksX5_act_0 0 rfl rfl)
theorem dX5_act_1 : decode cX5_act 1 = .ok (.iconst 0, 1) := dk_3 (dk_at dksX5_act_0 1 rfl rfl)
theorem dX5_act_2 : decode cX5_act 2 = .ok (.putfield 1, 3) := dk_181 0 1 (dk_at dksX5_act_0 2 rfl rfl)
theorem dX5_act_5 : decode cX5_act 5 = .ok (.aload_n 0, 1) := dk_42 (dk_at dksX5_act_0 5 rfl rfl)
theorem dX5_act_6 : decode cX5_act 6 = .ok (.iload_n 1, 1) := dk_27 (dk_at dksX5_act_0 6 rfl rfl)
theorem dX5_act_7 : decode cX5_act 7 = .ok (.invokevirtual 251, 3) := dk_182 0 251 (dk_at dksX5_act_0 7 rfl rfl)
theorem dX5_act_10 : decode cX5_act 10 = .ok (.ifCond .eq 11, 3) := dk_153 0 11 (dk_at dksX5_act_0 10 rfl rfl)
theorem dX5_act_13 : decode cX5_act 13 = .ok (.aload_n 0, 1) := dk_42 (dk_at dksX5_act_0 13 rfl rfl)
theorem dX5_act_14 : decode cX5_act 14 = .ok (.iload_n 2, 1) := dk_28 (dk_at dksX5_act_0 14 rfl rfl)
theorem dX5_act_15 : decode cX5_act 15 = .ok (.invokevirtual 276, 3) := dk_182 1 20 (dk_at dksX5_act_0 15 rfl rfl)
theorem dX5_act_18 : decode cX5_act 18 = .ok (.ifCond .ne 5, 3) := dk_154 0 5 (dk_at dksX5_act_0 18 rfl rfl)
theorem dX5_act_21 : decode cX5_act 21 = .ok (.iconst (-1), 1) := dk_2 (dk_at dksX5_act_0 21 rfl rfl)
theorem dX5_act_22 : decode cX5_act 22 = .ok (.ireturn, 1) := dk_172 (dk_at dksX5_act_0 22 rfl rfl)
theorem dX5_act_23 : decode cX5_act 23 = .ok (.aload_n 0, 1) := dk_42 (dk_at dksX5_act_0 23 rfl rfl)
theorem dX5_act_24 : decode cX5_act 24 = .ok (.iload_n 1, 1) := dk_27 (dk_at dksX5_act_1 0 rfl rfl)
theorem dX5_act_25 : decode cX5_act 25 = .ok (.invokevirtual 279, 3) := dk_182 1 23 (dk_at dksX5_act_1 1 rfl rfl)
theorem dX5_act_28 : decode cX5_act 28 = .ok (.istore_n 3, 1) := dk_62 (dk_at dksX5_act_1 4 rfl rfl)
theorem dX5_act_29 : decode cX5_act 29 = .ok (.iload_n 3, 1) := dk_29 (dk_at dksX5_act_1 5 rfl rfl)
theorem dX5_act_30 : decode cX5_act 30 = .ok (.ifCond .le 5, 3) := dk_158 0 5 (dk_at dksX5_act_1 6 rfl rfl)
theorem dX5_act_33 : decode cX5_act 33 = .ok (.iload_n 3, 1) := dk_29 (dk_at dksX5_act_1 9 rfl rfl)
theorem dX5_act_34 : decode cX5_act 34 = .ok (.ireturn, 1) := dk_172 (dk_at dksX5_act_1 10 rfl rfl)
theorem dX5_act_35 : decode cX5_act 35 = .ok (.aload_n 0, 1) := dk_42 (dk_at dksX5_act_1 11 rfl rfl)
theorem dX5_act_36 : decode cX5_act 36 = .ok (.invokevirtual 269, 3) := dk_182 1 13 (dk_at dksX5_act_1 12 rfl rfl)
theorem dX5_act_39 : decode cX5_act 39 = .ok (.aload_n 0, 1) := dk_42 (dk_at dksX5_act_1 15 rfl rfl)
theorem dX5_act_40 : decode cX5_act 40 = .ok (.iload_n 1, 1) := dk_27 (dk_at dksX5_act_1 16 rfl rfl)
theorem dX5_act_41 : decode cX5_act 41 = .ok (.iload_n 2, 1) := dk_28 (dk_at dksX5_act_1 17 rfl rfl)
theorem dX5_act_42 : decode cX5_act 42 = .ok (.invokevirtual 283, 3) := dk_182 1 27 (dk_at dksX5_act_1 18 rfl rfl)
theorem dX5_act_45 : decode cX5_act 45 = .ok (.iconst 0, 1) := dk_3 (dk_at dksX5_act_1 21 rfl rfl)
theorem dX5_act_46 : decode cX5_act 46 = .ok (.ireturn, 1) := dk_172 (dk_at dksX5_act_1 22 rfl rfl)
abbrev cX5_isDeed : ByteArray := prog_26_method_32_code
def yX5_isDeed : MethodName := ⟨RX5, "isDeed", "(I)Z"⟩
def dkwX5_isDeed_0 : List UInt8 := [27, 3, 42, 180, 0, 33, 8, 46, 4, 100, 184, 0, 187, 172]
abbrev dktX5_isDeed_0 : List UInt8 := dkwX5_isDeed_0 ++ []
theorem dksX5_isDeed_0 : cX5_isDeed.data.toList.drop 0 = dktX5_isDeed_0 := by decide +kernel
theorem dX5_isDeed_0 : decode cX5_isDeed 0 = .ok (.iload_n 1, 1) := dk_27 (dk_at dksX5_isDeed_0 0 rfl rfl)
theorem dX5_isDeed_1 : decode cX5_isDeed 1 = .ok (.iconst 0, 1) := dk_3 (dk_at dksX5_isDeed_0 1 rfl rfl)
theorem dX5_isDeed_2 : decode cX5_isDeed 2 = .ok (.aload_n 0, 1) := dk_42 (dk_at dksX5_isDeed_0 2 rfl rfl)
theorem dX5_isDeed_3 : decode cX5_isDeed 3 = .ok (.getfield 33, 3) := dk_180 0 33 (dk_at dksX5_isDeed_0 3 rfl rfl)
theorem dX5_isDeed_6 : decode cX5_isDeed 6 = .ok (.iconst 5, 1) := dk_8 (dk_at dksX5_isDeed_0 6 rfl rfl)
theorem dX5_isDeed_7 : decode cX5_isDeed 7 = .ok (.iaload, 1) := dk_46 (dk_at dksX5_isDeed_0 7 rfl rfl)
theorem dX5_isDeed_8 : decode cX5_isDeed 8 = .ok (.iconst 1, 1) := dk_4 (dk_at dksX5_isDeed_0 8 rfl rfl)
theorem dX5_isDeed_9 : decode cX5_isDeed 9 = .ok (.isub, 1) := dk_100 (dk_at dksX5_isDeed_0 9 rfl rfl)
theorem dX5_isDeed_10 : decode cX5_isDeed 10 = .ok (.invokestatic 187, 3) := dk_184 0 187 (dk_at dksX5_isDeed_0 10 rfl rfl)
theorem dX5_isDeed_13 : decode cX5_isDeed 13 = .ok (.ireturn, 1) := dk_172 (dk_at dksX5_isDeed_0 13 rfl rfl)
abbrev cX5_whyAct : ByteArray := prog_26_method_42_code
def yX5_whyAct : MethodName := ⟨RX5, "whyAct", "(I)I"⟩
def dkwX5_whyAct_1 : List UInt8 := [6, 167, 0, 20, 42, 180, 0, 33, 16, 123, 46, 16, 80, 160, 0, 7, 7, 167, 0, 4, 3, 172]
abbrev dktX5_whyAct_1 : List UInt8 := dkwX5_whyAct_1 ++ []
def dkwX5_whyAct_0 : List UInt8 := [42, 180, 0, 33, 16, 111, 27, 96, 46, 4, 160, 0, 7, 4, 167, 0, 31, 42, 182, 1, 7, 153, 0, 7]
abbrev dktX5_whyAct_0 : List UInt8 := dkwX5_whyAct_0 ++ dktX5_whyAct_1
theorem dksX5_whyAct_0 : cX5_whyAct.data.toList.drop 0 = dktX5_whyAct_0 := by decide +kernel
theorem dksX5_whyAct_1 : cX5_whyAct.data.toList.drop 24 = dktX5_whyAct_1 := dk_seg dksX5_whyAct_0 24 rfl rfl
theorem dX5_whyAct_0 : decode cX5_whyAct 0 = .ok (.aload_n 0, 1) := dk_42 (dk_at dksX5_whyAct_0 0 rfl rfl)
theorem dX5_whyAct_1 : decode cX5_whyAct 1 = .ok (.getfield 33, 3) := dk_180 0 33 (dk_at dksX5_whyAct_0 1 rfl rfl)
theorem dX5_whyAct_4 : decode cX5_whyAct 4 = .ok (.bipush 111, 2) := dk_16 111 (dk_at dksX5_whyAct_0 4 rfl rfl)
theorem dX5_whyAct_6 : decode cX5_whyAct 6 = .ok (.iload_n 1, 1) := dk_27 (dk_at dksX5_whyAct_0 6 rfl rfl)
theorem dX5_whyAct_7 : decode cX5_whyAct 7 = .ok (.iadd, 1) := dk_96 (dk_at dksX5_whyAct_0 7 rfl rfl)
theorem dX5_whyAct_8 : decode cX5_whyAct 8 = .ok (.iaload, 1) := dk_46 (dk_at dksX5_whyAct_0 8 rfl rfl)
theorem dX5_whyAct_9 : decode cX5_whyAct 9 = .ok (.iconst 1, 1) := dk_4 (dk_at dksX5_whyAct_0 9 rfl rfl)
theorem dX5_whyAct_10 : decode cX5_whyAct 10 = .ok (.if_icmp .ne 7, 3) := dk_160 0 7 (dk_at dksX5_whyAct_0 10 rfl rfl)
theorem dX5_whyAct_13 : decode cX5_whyAct 13 = .ok (.iconst 1, 1) := dk_4 (dk_at dksX5_whyAct_0 13 rfl rfl)
theorem dX5_whyAct_14 : decode cX5_whyAct 14 = .ok (.goto 31, 3) := dk_167 0 31 (dk_at dksX5_whyAct_0 14 rfl rfl)
theorem dX5_whyAct_17 : decode cX5_whyAct 17 = .ok (.aload_n 0, 1) := dk_42 (dk_at dksX5_whyAct_0 17 rfl rfl)
theorem dX5_whyAct_18 : decode cX5_whyAct 18 = .ok (.invokevirtual 263, 3) := dk_182 1 7 (dk_at dksX5_whyAct_0 18 rfl rfl)
theorem dX5_whyAct_21 : decode cX5_whyAct 21 = .ok (.ifCond .eq 7, 3) := dk_153 0 7 (dk_at dksX5_whyAct_0 21 rfl rfl)
theorem dX5_whyAct_24 : decode cX5_whyAct 24 = .ok (.iconst 3, 1) := dk_6 (dk_at dksX5_whyAct_1 0 rfl rfl)
theorem dX5_whyAct_25 : decode cX5_whyAct 25 = .ok (.goto 20, 3) := dk_167 0 20 (dk_at dksX5_whyAct_1 1 rfl rfl)
theorem dX5_whyAct_28 : decode cX5_whyAct 28 = .ok (.aload_n 0, 1) := dk_42 (dk_at dksX5_whyAct_1 4 rfl rfl)
theorem dX5_whyAct_29 : decode cX5_whyAct 29 = .ok (.getfield 33, 3) := dk_180 0 33 (dk_at dksX5_whyAct_1 5 rfl rfl)
theorem dX5_whyAct_32 : decode cX5_whyAct 32 = .ok (.bipush 123, 2) := dk_16 123 (dk_at dksX5_whyAct_1 8 rfl rfl)
theorem dX5_whyAct_34 : decode cX5_whyAct 34 = .ok (.iaload, 1) := dk_46 (dk_at dksX5_whyAct_1 10 rfl rfl)
theorem dX5_whyAct_35 : decode cX5_whyAct 35 = .ok (.bipush 80, 2) := dk_16 80 (dk_at dksX5_whyAct_1 11 rfl rfl)
theorem dX5_whyAct_37 : decode cX5_whyAct 37 = .ok (.if_icmp .ne 7, 3) := dk_160 0 7 (dk_at dksX5_whyAct_1 13 rfl rfl)
theorem dX5_whyAct_40 : decode cX5_whyAct 40 = .ok (.iconst 4, 1) := dk_7 (dk_at dksX5_whyAct_1 16 rfl rfl)
theorem dX5_whyAct_41 : decode cX5_whyAct 41 = .ok (.goto 4, 3) := dk_167 0 4 (dk_at dksX5_whyAct_1 17 rfl rfl)
theorem dX5_whyAct_44 : decode cX5_whyAct 44 = .ok (.iconst 0, 1) := dk_3 (dk_at dksX5_whyAct_1 20 rfl rfl)
theorem dX5_whyAct_45 : decode cX5_whyAct 45 = .ok (.ireturn, 1) := dk_172 (dk_at dksX5_whyAct_1 21 rfl rfl)
abbrev cX5_does : ByteArray := prog_26_method_45_code
def yX5_does : MethodName := ⟨RX5, "does", "(II)V"⟩
def dkwX5_does_4 : List UInt8 := [96, 79, 177]
abbrev dktX5_does_4 : List UInt8 := dkwX5_does_4 ++ []
def dkwX5_does_3 : List UInt8 := [4, 96, 79, 42, 180, 0, 33, 16, 111, 27, 96, 4, 79, 42, 180, 0, 33, 16, 115, 27, 96, 92, 46, 4]
abbrev dktX5_does_3 : List UInt8 := dkwX5_does_3 ++ dktX5_does_4
def dkwX5_does_2 : List UInt8 := [180, 0, 33, 29, 6, 96, 42, 180, 0, 33, 16, 107, 27, 96, 46, 79, 42, 180, 0, 33, 16, 123, 92, 46]
abbrev dktX5_does_2 : List UInt8 := dkwX5_does_2 ++ dktX5_does_3
def dkwX5_does_1 : List UInt8 := [16, 106, 46, 79, 42, 180, 0, 33, 29, 4, 96, 27, 79, 42, 180, 0, 33, 29, 5, 96, 28, 79, 42]
abbrev dktX5_does_1 : List UInt8 := dkwX5_does_1 ++ dktX5_does_2
def dkwX5_does_0 : List UInt8 := [17, 0, 148, 7, 42, 180, 0, 33, 16, 123, 46, 104, 96, 62, 42, 180, 0, 33, 29, 42, 180, 0, 33]
abbrev dktX5_does_0 : List UInt8 := dkwX5_does_0 ++ dktX5_does_1
theorem dksX5_does_0 : cX5_does.data.toList.drop 0 = dktX5_does_0 := by decide +kernel
theorem dksX5_does_1 : cX5_does.data.toList.drop 23 = dktX5_does_1 := dk_seg dksX5_does_0 23 rfl rfl
theorem dksX5_does_2 : cX5_does.data.toList.drop 46 = dktX5_does_2 := dk_seg dksX5_does_1 23 rfl rfl
theorem dksX5_does_3 : cX5_does.data.toList.drop 70 = dktX5_does_3 := dk_seg dksX5_does_2 24 rfl rfl
theorem dksX5_does_4 : cX5_does.data.toList.drop 94 = dktX5_does_4 := dk_seg dksX5_does_3 24 rfl rfl
theorem dX5_does_0 : decode cX5_does 0 = .ok (.sipush 148, 3) := dk_17 0 148 (dk_at dksX5_does_0 0 rfl rfl)
theorem dX5_does_3 : decode cX5_does 3 = .ok (.iconst 4, 1) := dk_7 (dk_at dksX5_does_0 3 rfl rfl)
theorem dX5_does_4 : decode cX5_does 4 = .ok (.aload_n 0, 1) := dk_42 (dk_at dksX5_does_0 4 rfl rfl)
theorem dX5_does_5 : decode cX5_does 5 = .ok (.getfield 33, 3) := dk_180 0 33 (dk_at dksX5_does_0 5 rfl rfl)
theorem dX5_does_8 : decode cX5_does 8 = .ok (.bipush 123, 2) := dk_16 123 (dk_at dksX5_does_0 8 rfl rfl)
theorem dX5_does_10 : decode cX5_does 10 = .ok (.iaload, 1) := dk_46 (dk_at dksX5_does_0 10 rfl rfl)
theorem dX5_does_11 : decode cX5_does 11 = .ok (.imul, 1) := dk_104 (dk_at dksX5_does_0 11 rfl rfl)
theorem dX5_does_12 : decode cX5_does 12 = .ok (.iadd, 1) := dk_96 (dk_at dksX5_does_0 12 rfl rfl)
theorem dX5_does_13 : decode cX5_does 13 = .ok (.istore_n 3, 1) := dk_62 (dk_at dksX5_does_0 13 rfl rfl)
theorem dX5_does_14 : decode cX5_does 14 = .ok (.aload_n 0, 1) := dk_42 (dk_at dksX5_does_0 14 rfl rfl)
theorem dX5_does_15 : decode cX5_does 15 = .ok (.getfield 33, 3) := dk_180 0 33 (dk_at dksX5_does_0 15 rfl rfl)
theorem dX5_does_18 : decode cX5_does 18 = .ok (.iload_n 3, 1) := dk_29 (dk_at dksX5_does_0 18 rfl rfl)
theorem dX5_does_19 : decode cX5_does 19 = .ok (.aload_n 0, 1) := dk_42 (dk_at dksX5_does_0 19 rfl rfl)
theorem dX5_does_20 : decode cX5_does 20 = .ok (.getfield 33, 3) := dk_180 0 33 (dk_at dksX5_does_0 20 rfl rfl)
theorem dX5_does_23 : decode cX5_does 23 = .ok (.bipush 106, 2) := dk_16 106 (dk_at dksX5_does_1 0 rfl rfl)
theorem dX5_does_25 : decode cX5_does 25 = .ok (.iaload, 1) := dk_46 (dk_at dksX5_does_1 2 rfl rfl)
theorem dX5_does_26 : decode cX5_does 26 = .ok (.iastore, 1) := dk_79 (dk_at dksX5_does_1 3 rfl rfl)
theorem dX5_does_27 : decode cX5_does 27 = .ok (.aload_n 0, 1) := dk_42 (dk_at dksX5_does_1 4 rfl rfl)
theorem dX5_does_28 : decode cX5_does 28 = .ok (.getfield 33, 3) := dk_180 0 33 (dk_at dksX5_does_1 5 rfl rfl)
theorem dX5_does_31 : decode cX5_does 31 = .ok (.iload_n 3, 1) := dk_29 (dk_at dksX5_does_1 8 rfl rfl)
theorem dX5_does_32 : decode cX5_does 32 = .ok (.iconst 1, 1) := dk_4 (dk_at dksX5_does_1 9 rfl rfl)
theorem dX5_does_33 : decode cX5_does 33 = .ok (.iadd, 1) := dk_96 (dk_at dksX5_does_1 10 rfl rfl)
theorem dX5_does_34 : decode cX5_does 34 = .ok (.iload_n 1, 1) := dk_27 (dk_at dksX5_does_1 11 rfl rfl)
theorem dX5_does_35 : decode cX5_does 35 = .ok (.iastore, 1) := dk_79 (dk_at dksX5_does_1 12 rfl rfl)
theorem dX5_does_36 : decode cX5_does 36 = .ok (.aload_n 0, 1) := dk_42 (dk_at dksX5_does_1 13 rfl rfl)
theorem dX5_does_37 : decode cX5_does 37 = .ok (.getfield 33, 3) := dk_180 0 33 (dk_at dksX5_does_1 14 rfl rfl)
theorem dX5_does_40 : decode cX5_does 40 = .ok (.iload_n 3, 1) := dk_29 (dk_at dksX5_does_1 17 rfl rfl)
theorem dX5_does_41 : decode cX5_does 41 = .ok (.iconst 2, 1) := dk_5 (dk_at dksX5_does_1 18 rfl rfl)
theorem dX5_does_42 : decode cX5_does 42 = .ok (.iadd, 1) := dk_96 (dk_at dksX5_does_1 19 rfl rfl)
theorem dX5_does_43 : decode cX5_does 43 = .ok (.iload_n 2, 1) := dk_28 (dk_at dksX5_does_1 20 rfl rfl)
theorem dX5_does_44 : decode cX5_does 44 = .ok (.iastore, 1) := dk_79 (dk_at dksX5_does_1 21 rfl rfl)
theorem dX5_does_45 : decode cX5_does 45 = .ok (.aload_n 0, 1) := dk_42 (dk_at dksX5_does_1 22 rfl rfl)
theorem dX5_does_46 : decode cX5_does 46 = .ok (.getfield 33, 3) := dk_180 0 33 (dk_at dksX5_does_2 0 rfl rfl)
theorem dX5_does_49 : decode cX5_does 49 = .ok (.iload_n 3, 1) := dk_29 (dk_at dksX5_does_2 3 rfl rfl)
theorem dX5_does_50 : decode cX5_does 50 = .ok (.iconst 3, 1) := dk_6 (dk_at dksX5_does_2 4 rfl rfl)
theorem dX5_does_51 : decode cX5_does 51 = .ok (.iadd, 1) := dk_96 (dk_at dksX5_does_2 5 rfl rfl)
theorem dX5_does_52 : decode cX5_does 52 = .ok (.aload_n 0, 1) := dk_42 (dk_at dksX5_does_2 6 rfl rfl)
theorem dX5_does_53 : decode cX5_does 53 = .ok (.getfield 33, 3) := dk_180 0 33 (dk_at dksX5_does_2 7 rfl rfl)
theorem dX5_does_56 : decode cX5_does 56 = .ok (.bipush 107, 2) := dk_16 107 (dk_at dksX5_does_2 10 rfl rfl)
theorem dX5_does_58 : decode cX5_does 58 = .ok (.iload_n 1, 1) := dk_27 (dk_at dksX5_does_2 12 rfl rfl)
theorem dX5_does_59 : decode cX5_does 59 = .ok (.iadd, 1) := dk_96 (dk_at dksX5_does_2 13 rfl rfl)
theorem dX5_does_60 : decode cX5_does 60 = .ok (.iaload, 1) := dk_46 (dk_at dksX5_does_2 14 rfl rfl)
theorem dX5_does_61 : decode cX5_does 61 = .ok (.iastore, 1) := dk_79 (dk_at dksX5_does_2 15 rfl rfl)
theorem dX5_does_62 : decode cX5_does 62 = .ok (.aload_n 0, 1) := dk_42 (dk_at dksX5_does_2 16 rfl rfl)
theorem dX5_does_63 : decode cX5_does 63 = .ok (.getfield 33, 3) := dk_180 0 33 (dk_at dksX5_does_2 17 rfl rfl)
theorem dX5_does_66 : decode cX5_does 66 = .ok (.bipush 123, 2) := dk_16 123 (dk_at dksX5_does_2 20 rfl rfl)
theorem dX5_does_68 : decode cX5_does 68 = .ok (.dup2, 1) := dk_92 (dk_at dksX5_does_2 22 rfl rfl)
theorem dX5_does_69 : decode cX5_does 69 = .ok (.iaload, 1) := dk_46 (dk_at dksX5_does_2 23 rfl rfl)
theorem dX5_does_70 : decode cX5_does 70 = .ok (.iconst 1, 1) := dk_4 (dk_at dksX5_does_3 0 rfl rfl)
theorem dX5_does_71 : decode cX5_does 71 = .ok (.iadd, 1) := dk_96 (dk_at dksX5_does_3 1 rfl rfl)
theorem dX5_does_72 : decode cX5_does 72 = .ok (.iastore, 1) := dk_79 (dk_at dksX5_does_3 2 rfl rfl)
theorem dX5_does_73 : decode cX5_does 73 = .ok (.aload_n 0, 1) := dk_42 (dk_at dksX5_does_3 3 rfl rfl)
theorem dX5_does_74 : decode cX5_does 74 = .ok (.getfield 33, 3) := dk_180 0 33 (dk_at dksX5_does_3 4 rfl rfl)
theorem dX5_does_77 : decode cX5_does 77 = .ok (.bipush 111, 2) := dk_16 111 (dk_at dksX5_does_3 7 rfl rfl)
theorem dX5_does_79 : decode cX5_does 79 = .ok (.iload_n 1, 1) := dk_27 (dk_at dksX5_does_3 9 rfl rfl)
theorem dX5_does_80 : decode cX5_does 80 = .ok (.iadd, 1) := dk_96 (dk_at dksX5_does_3 10 rfl rfl)
theorem dX5_does_81 : decode cX5_does 81 = .ok (.iconst 1, 1) := dk_4 (dk_at dksX5_does_3 11 rfl rfl)
theorem dX5_does_82 : decode cX5_does 82 = .ok (.iastore, 1) := dk_79 (dk_at dksX5_does_3 12 rfl rfl)
theorem dX5_does_83 : decode cX5_does 83 = .ok (.aload_n 0, 1) := dk_42 (dk_at dksX5_does_3 13 rfl rfl)
theorem dX5_does_84 : decode cX5_does 84 = .ok (.getfield 33, 3) := dk_180 0 33 (dk_at dksX5_does_3 14 rfl rfl)
theorem dX5_does_87 : decode cX5_does 87 = .ok (.bipush 115, 2) := dk_16 115 (dk_at dksX5_does_3 17 rfl rfl)
theorem dX5_does_89 : decode cX5_does 89 = .ok (.iload_n 1, 1) := dk_27 (dk_at dksX5_does_3 19 rfl rfl)
theorem dX5_does_90 : decode cX5_does 90 = .ok (.iadd, 1) := dk_96 (dk_at dksX5_does_3 20 rfl rfl)
theorem dX5_does_91 : decode cX5_does 91 = .ok (.dup2, 1) := dk_92 (dk_at dksX5_does_3 21 rfl rfl)
theorem dX5_does_92 : decode cX5_does 92 = .ok (.iaload, 1) := dk_46 (dk_at dksX5_does_3 22 rfl rfl)
theorem dX5_does_93 : decode cX5_does 93 = .ok (.iconst 1, 1) := dk_4 (dk_at dksX5_does_3 23 rfl rfl)
theorem dX5_does_94 : decode cX5_does 94 = .ok (.iadd, 1) := dk_96 (dk_at dksX5_does_4 0 rfl rfl)
theorem dX5_does_95 : decode cX5_does 95 = .ok (.iastore, 1) := dk_79 (dk_at dksX5_does_4 1 rfl rfl)
theorem dX5_does_96 : decode cX5_does 96 = .ok (.return_, 1) := dk_177 (dk_at dksX5_does_4 2 rfl rfl)
abbrev cX5_say : ByteArray := prog_26_method_51_code
def yX5_say : MethodName := ⟨RX5, "say", "(II)I"⟩
def dkwX5_say_1 : List UInt8 := [27, 28, 182, 1, 30, 62, 29, 158, 0, 5, 29, 172, 42, 182, 1, 13, 42, 27, 28, 182, 1, 33, 3, 172]
abbrev dktX5_say_1 : List UInt8 := dkwX5_say_1 ++ []
def dkwX5_say_0 : List UInt8 := [42, 3, 181, 0, 1, 42, 27, 182, 0, 251, 153, 0, 11, 42, 28, 182, 0, 244, 154, 0, 5, 2, 172, 42]
abbrev dktX5_say_0 : List UInt8 := dkwX5_say_0 ++ dktX5_say_1
theorem dksX5_say_0 : cX5_say.data.toList.drop 0 = dktX5_say_0 := by decide +kernel
theorem dksX5_say_1 : cX5_say.data.toList.drop 24 = dktX5_say_1 := dk_seg dksX5_say_0 24 rfl rfl
theorem dX5_say_0 : decode cX5_say 0 = .ok (.aload_n 0, 1) := dk_42 (dk_at dksX5_say_0 0 rfl rfl)
theorem dX5_say_1 : decode cX5_say 1 = .ok (.iconst 0, 1) := dk_3 (dk_at dksX5_say_0 1 rfl rfl)
theorem dX5_say_2 : decode cX5_say 2 = .ok (.putfield 1, 3) := dk_181 0 1 (dk_at dksX5_say_0 2 rfl rfl)
theorem dX5_say_5 : decode cX5_say 5 = .ok (.aload_n 0, 1) := dk_42 (dk_at dksX5_say_0 5 rfl rfl)
theorem dX5_say_6 : decode cX5_say 6 = .ok (.iload_n 1, 1) := dk_27 (dk_at dksX5_say_0 6 rfl rfl)
theorem dX5_say_7 : decode cX5_say 7 = .ok (.invokevirtual 251, 3) := dk_182 0 251 (dk_at dksX5_say_0 7 rfl rfl)
theorem dX5_say_10 : decode cX5_say 10 = .ok (.ifCond .eq 11, 3) := dk_153 0 11 (dk_at dksX5_say_0 10 rfl rfl)
theorem dX5_say_13 : decode cX5_say 13 = .ok (.aload_n 0, 1) := dk_42 (dk_at dksX5_say_0 13 rfl rfl)
theorem dX5_say_14 : decode cX5_say 14 = .ok (.iload_n 2, 1) := dk_28 (dk_at dksX5_say_0 14 rfl rfl)
theorem dX5_say_15 : decode cX5_say 15 = .ok (.invokevirtual 244, 3) := dk_182 0 244 (dk_at dksX5_say_0 15 rfl rfl)
theorem dX5_say_18 : decode cX5_say 18 = .ok (.ifCond .ne 5, 3) := dk_154 0 5 (dk_at dksX5_say_0 18 rfl rfl)
theorem dX5_say_21 : decode cX5_say 21 = .ok (.iconst (-1), 1) := dk_2 (dk_at dksX5_say_0 21 rfl rfl)
theorem dX5_say_22 : decode cX5_say 22 = .ok (.ireturn, 1) := dk_172 (dk_at dksX5_say_0 22 rfl rfl)
theorem dX5_say_23 : decode cX5_say 23 = .ok (.aload_n 0, 1) := dk_42 (dk_at dksX5_say_0 23 rfl rfl)
theorem dX5_say_24 : decode cX5_say 24 = .ok (.iload_n 1, 1) := dk_27 (dk_at dksX5_say_1 0 rfl rfl)
theorem dX5_say_25 : decode cX5_say 25 = .ok (.iload_n 2, 1) := dk_28 (dk_at dksX5_say_1 1 rfl rfl)
theorem dX5_say_26 : decode cX5_say 26 = .ok (.invokevirtual 286, 3) := dk_182 1 30 (dk_at dksX5_say_1 2 rfl rfl)
theorem dX5_say_29 : decode cX5_say 29 = .ok (.istore_n 3, 1) := dk_62 (dk_at dksX5_say_1 5 rfl rfl)
theorem dX5_say_30 : decode cX5_say 30 = .ok (.iload_n 3, 1) := dk_29 (dk_at dksX5_say_1 6 rfl rfl)
theorem dX5_say_31 : decode cX5_say 31 = .ok (.ifCond .le 5, 3) := dk_158 0 5 (dk_at dksX5_say_1 7 rfl rfl)
theorem dX5_say_34 : decode cX5_say 34 = .ok (.iload_n 3, 1) := dk_29 (dk_at dksX5_say_1 10 rfl rfl)
theorem dX5_say_35 : decode cX5_say 35 = .ok (.ireturn, 1) := dk_172 (dk_at dksX5_say_1 11 rfl rfl)
theorem dX5_say_36 : decode cX5_say 36 = .ok (.aload_n 0, 1) := dk_42 (dk_at dksX5_say_1 12 rfl rfl)
theorem dX5_say_37 : decode cX5_say 37 = .ok (.invokevirtual 269, 3) := dk_182 1 13 (dk_at dksX5_say_1 13 rfl rfl)
theorem dX5_say_40 : decode cX5_say 40 = .ok (.aload_n 0, 1) := dk_42 (dk_at dksX5_say_1 16 rfl rfl)
theorem dX5_say_41 : decode cX5_say 41 = .ok (.iload_n 1, 1) := dk_27 (dk_at dksX5_say_1 17 rfl rfl)
theorem dX5_say_42 : decode cX5_say 42 = .ok (.iload_n 2, 1) := dk_28 (dk_at dksX5_say_1 18 rfl rfl)
theorem dX5_say_43 : decode cX5_say 43 = .ok (.invokevirtual 289, 3) := dk_182 1 33 (dk_at dksX5_say_1 19 rfl rfl)
theorem dX5_say_46 : decode cX5_say 46 = .ok (.iconst 0, 1) := dk_3 (dk_at dksX5_say_1 22 rfl rfl)
theorem dX5_say_47 : decode cX5_say 47 = .ok (.ireturn, 1) := dk_172 (dk_at dksX5_say_1 23 rfl rfl)
abbrev cX5_whySay : ByteArray := prog_26_method_43_code
def yX5_whySay : MethodName := ⟨RX5, "whySay", "(II)I"⟩
def dkwX5_whySay_1 : List UInt8 := [8, 167, 0, 21, 42, 180, 0, 33, 16, 124, 28, 96, 46, 158, 0, 8, 16, 6, 167, 0, 4, 3, 172]
abbrev dktX5_whySay_1 : List UInt8 := dkwX5_whySay_1 ++ []
def dkwX5_whySay_0 : List UInt8 := [42, 182, 1, 7, 153, 0, 7, 6, 167, 0, 38, 42, 180, 0, 33, 16, 26, 28, 96, 46, 27, 159, 0, 7]
abbrev dktX5_whySay_0 : List UInt8 := dkwX5_whySay_0 ++ dktX5_whySay_1
theorem dksX5_whySay_0 : cX5_whySay.data.toList.drop 0 = dktX5_whySay_0 := by decide +kernel
theorem dksX5_whySay_1 : cX5_whySay.data.toList.drop 24 = dktX5_whySay_1 := dk_seg dksX5_whySay_0 24 rfl rfl
theorem dX5_whySay_0 : decode cX5_whySay 0 = .ok (.aload_n 0, 1) := dk_42 (dk_at dksX5_whySay_0 0 rfl rfl)
theorem dX5_whySay_1 : decode cX5_whySay 1 = .ok (.invokevirtual 263, 3) := dk_182 1 7 (dk_at dksX5_whySay_0 1 rfl rfl)
theorem dX5_whySay_4 : decode cX5_whySay 4 = .ok (.ifCond .eq 7, 3) := dk_153 0 7 (dk_at dksX5_whySay_0 4 rfl rfl)
theorem dX5_whySay_7 : decode cX5_whySay 7 = .ok (.iconst 3, 1) := dk_6 (dk_at dksX5_whySay_0 7 rfl rfl)
theorem dX5_whySay_8 : decode cX5_whySay 8 = .ok (.goto 38, 3) := dk_167 0 38 (dk_at dksX5_whySay_0 8 rfl rfl)
theorem dX5_whySay_11 : decode cX5_whySay 11 = .ok (.aload_n 0, 1) := dk_42 (dk_at dksX5_whySay_0 11 rfl rfl)
theorem dX5_whySay_12 : decode cX5_whySay 12 = .ok (.getfield 33, 3) := dk_180 0 33 (dk_at dksX5_whySay_0 12 rfl rfl)
theorem dX5_whySay_15 : decode cX5_whySay 15 = .ok (.bipush 26, 2) := dk_16 26 (dk_at dksX5_whySay_0 15 rfl rfl)
theorem dX5_whySay_17 : decode cX5_whySay 17 = .ok (.iload_n 2, 1) := dk_28 (dk_at dksX5_whySay_0 17 rfl rfl)
theorem dX5_whySay_18 : decode cX5_whySay 18 = .ok (.iadd, 1) := dk_96 (dk_at dksX5_whySay_0 18 rfl rfl)
theorem dX5_whySay_19 : decode cX5_whySay 19 = .ok (.iaload, 1) := dk_46 (dk_at dksX5_whySay_0 19 rfl rfl)
theorem dX5_whySay_20 : decode cX5_whySay 20 = .ok (.iload_n 1, 1) := dk_27 (dk_at dksX5_whySay_0 20 rfl rfl)
theorem dX5_whySay_21 : decode cX5_whySay 21 = .ok (.if_icmp .eq 7, 3) := dk_159 0 7 (dk_at dksX5_whySay_0 21 rfl rfl)
theorem dX5_whySay_24 : decode cX5_whySay 24 = .ok (.iconst 5, 1) := dk_8 (dk_at dksX5_whySay_1 0 rfl rfl)
theorem dX5_whySay_25 : decode cX5_whySay 25 = .ok (.goto 21, 3) := dk_167 0 21 (dk_at dksX5_whySay_1 1 rfl rfl)
theorem dX5_whySay_28 : decode cX5_whySay 28 = .ok (.aload_n 0, 1) := dk_42 (dk_at dksX5_whySay_1 4 rfl rfl)
theorem dX5_whySay_29 : decode cX5_whySay 29 = .ok (.getfield 33, 3) := dk_180 0 33 (dk_at dksX5_whySay_1 5 rfl rfl)
theorem dX5_whySay_32 : decode cX5_whySay 32 = .ok (.bipush 124, 2) := dk_16 124 (dk_at dksX5_whySay_1 8 rfl rfl)
theorem dX5_whySay_34 : decode cX5_whySay 34 = .ok (.iload_n 2, 1) := dk_28 (dk_at dksX5_whySay_1 10 rfl rfl)
theorem dX5_whySay_35 : decode cX5_whySay 35 = .ok (.iadd, 1) := dk_96 (dk_at dksX5_whySay_1 11 rfl rfl)
theorem dX5_whySay_36 : decode cX5_whySay 36 = .ok (.iaload, 1) := dk_46 (dk_at dksX5_whySay_1 12 rfl rfl)
theorem dX5_whySay_37 : decode cX5_whySay 37 = .ok (.ifCond .le 8, 3) := dk_158 0 8 (dk_at dksX5_whySay_1 13 rfl rfl)
theorem dX5_whySay_40 : decode cX5_whySay 40 = .ok (.bipush 6, 2) := dk_16 6 (dk_at dksX5_whySay_1 16 rfl rfl)
theorem dX5_whySay_42 : decode cX5_whySay 42 = .ok (.goto 4, 3) := dk_167 0 4 (dk_at dksX5_whySay_1 18 rfl rfl)
theorem dX5_whySay_45 : decode cX5_whySay 45 = .ok (.iconst 0, 1) := dk_3 (dk_at dksX5_whySay_1 21 rfl rfl)
theorem dX5_whySay_46 : decode cX5_whySay 46 = .ok (.ireturn, 1) := dk_172 (dk_at dksX5_whySay_1 22 rfl rfl)
abbrev cX5_says : ByteArray := prog_26_method_46_code
def yX5_says : MethodName := ⟨RX5, "says", "(II)V"⟩
def dkwX5_says_3 : List UInt8 := [42, 180, 0, 33, 17, 0, 132, 28, 96, 4, 79, 132, 3, 1, 167, 255, 211, 177]
abbrev dktX5_says_3 : List UInt8 := dkwX5_says_3 ++ []
def dkwX5_says_2 : List UInt8 := [162, 0, 41, 42, 180, 0, 33, 16, 16, 29, 96, 46, 42, 180, 0, 33, 16, 107, 27, 96, 46, 160, 0, 14]
abbrev dktX5_says_2 : List UInt8 := dkwX5_says_2 ++ dktX5_says_3
def dkwX5_says_1 : List UInt8 := [17, 0, 140, 28, 96, 42, 180, 0, 33, 16, 107, 27, 96, 46, 79, 3, 62, 29, 42, 180, 0, 33, 6, 46]
abbrev dktX5_says_1 : List UInt8 := dkwX5_says_1 ++ dktX5_says_2
def dkwX5_says_0 : List UInt8 := [42, 180, 0, 33, 16, 124, 28, 96, 42, 180, 0, 33, 16, 106, 46, 4, 96, 79, 42, 180, 0, 33]
abbrev dktX5_says_0 : List UInt8 := dkwX5_says_0 ++ dktX5_says_1
theorem dksX5_says_0 : cX5_says.data.toList.drop 0 = dktX5_says_0 := by decide +kernel
theorem dksX5_says_1 : cX5_says.data.toList.drop 22 = dktX5_says_1 := dk_seg dksX5_says_0 22 rfl rfl
theorem dksX5_says_2 : cX5_says.data.toList.drop 46 = dktX5_says_2 := dk_seg dksX5_says_1 24 rfl rfl
theorem dksX5_says_3 : cX5_says.data.toList.drop 70 = dktX5_says_3 := dk_seg dksX5_says_2 24 rfl rfl
theorem dX5_says_0 : decode cX5_says 0 = .ok (.aload_n 0, 1) := dk_42 (dk_at dksX5_says_0 0 rfl rfl)
theorem dX5_says_1 : decode cX5_says 1 = .ok (.getfield 33, 3) := dk_180 0 33 (dk_at dksX5_says_0 1 rfl rfl)
theorem dX5_says_4 : decode cX5_says 4 = .ok (.bipush 124, 2) := dk_16 124 (dk_at dksX5_says_0 4 rfl rfl)
theorem dX5_says_6 : decode cX5_says 6 = .ok (.iload_n 2, 1) := dk_28 (dk_at dksX5_says_0 6 rfl rfl)
theorem dX5_says_7 : decode cX5_says 7 = .ok (.iadd, 1) := dk_96 (dk_at dksX5_says_0 7 rfl rfl)
theorem dX5_says_8 : decode cX5_says 8 = .ok (.aload_n 0, 1) := dk_42 (dk_at dksX5_says_0 8 rfl rfl)
theorem dX5_says_9 : decode cX5_says 9 = .ok (.getfield 33, 3) := dk_180 0 33 (dk_at dksX5_says_0 9 rfl rfl)
theorem dX5_says_12 : decode cX5_says 12 = .ok (.bipush 106, 2) := dk_16 106 (dk_at dksX5_says_0 12 rfl rfl)
theorem dX5_says_14 : decode cX5_says 14 = .ok (.iaload, 1) := dk_46 (dk_at dksX5_says_0 14 rfl rfl)
theorem dX5_says_15 : decode cX5_says 15 = .ok (.iconst 1, 1) := dk_4 (dk_at dksX5_says_0 15 rfl rfl)
theorem dX5_says_16 : decode cX5_says 16 = .ok (.iadd, 1) := dk_96 (dk_at dksX5_says_0 16 rfl rfl)
theorem dX5_says_17 : decode cX5_says 17 = .ok (.iastore, 1) := dk_79 (dk_at dksX5_says_0 17 rfl rfl)
theorem dX5_says_18 : decode cX5_says 18 = .ok (.aload_n 0, 1) := dk_42 (dk_at dksX5_says_0 18 rfl rfl)
theorem dX5_says_19 : decode cX5_says 19 = .ok (.getfield 33, 3) := dk_180 0 33 (dk_at dksX5_says_0 19 rfl rfl)
theorem dX5_says_22 : decode cX5_says 22 = .ok (.sipush 140, 3) := dk_17 0 140 (dk_at dksX5_says_1 0 rfl rfl)
theorem dX5_says_25 : decode cX5_says 25 = .ok (.iload_n 2, 1) := dk_28 (dk_at dksX5_says_1 3 rfl rfl)
theorem dX5_says_26 : decode cX5_says 26 = .ok (.iadd, 1) := dk_96 (dk_at dksX5_says_1 4 rfl rfl)
theorem dX5_says_27 : decode cX5_says 27 = .ok (.aload_n 0, 1) := dk_42 (dk_at dksX5_says_1 5 rfl rfl)
theorem dX5_says_28 : decode cX5_says 28 = .ok (.getfield 33, 3) := dk_180 0 33 (dk_at dksX5_says_1 6 rfl rfl)
theorem dX5_says_31 : decode cX5_says 31 = .ok (.bipush 107, 2) := dk_16 107 (dk_at dksX5_says_1 9 rfl rfl)
theorem dX5_says_33 : decode cX5_says 33 = .ok (.iload_n 1, 1) := dk_27 (dk_at dksX5_says_1 11 rfl rfl)
theorem dX5_says_34 : decode cX5_says 34 = .ok (.iadd, 1) := dk_96 (dk_at dksX5_says_1 12 rfl rfl)
theorem dX5_says_35 : decode cX5_says 35 = .ok (.iaload, 1) := dk_46 (dk_at dksX5_says_1 13 rfl rfl)
theorem dX5_says_36 : decode cX5_says 36 = .ok (.iastore, 1) := dk_79 (dk_at dksX5_says_1 14 rfl rfl)
theorem dX5_says_37 : decode cX5_says 37 = .ok (.iconst 0, 1) := dk_3 (dk_at dksX5_says_1 15 rfl rfl)
theorem dX5_says_38 : decode cX5_says 38 = .ok (.istore_n 3, 1) := dk_62 (dk_at dksX5_says_1 16 rfl rfl)
theorem dX5_says_39 : decode cX5_says 39 = .ok (.iload_n 3, 1) := dk_29 (dk_at dksX5_says_1 17 rfl rfl)
theorem dX5_says_40 : decode cX5_says 40 = .ok (.aload_n 0, 1) := dk_42 (dk_at dksX5_says_1 18 rfl rfl)
theorem dX5_says_41 : decode cX5_says 41 = .ok (.getfield 33, 3) := dk_180 0 33 (dk_at dksX5_says_1 19 rfl rfl)
theorem dX5_says_44 : decode cX5_says 44 = .ok (.iconst 3, 1) := dk_6 (dk_at dksX5_says_1 22 rfl rfl)
theorem dX5_says_45 : decode cX5_says 45 = .ok (.iaload, 1) := dk_46 (dk_at dksX5_says_1 23 rfl rfl)
theorem dX5_says_46 : decode cX5_says 46 = .ok (.if_icmp .ge 41, 3) := dk_162 0 41 (dk_at dksX5_says_2 0 rfl rfl)
theorem dX5_says_49 : decode cX5_says 49 = .ok (.aload_n 0, 1) := dk_42 (dk_at dksX5_says_2 3 rfl rfl)
theorem dX5_says_50 : decode cX5_says 50 = .ok (.getfield 33, 3) := dk_180 0 33 (dk_at dksX5_says_2 4 rfl rfl)
theorem dX5_says_53 : decode cX5_says 53 = .ok (.bipush 16, 2) := dk_16 16 (dk_at dksX5_says_2 7 rfl rfl)
theorem dX5_says_55 : decode cX5_says 55 = .ok (.iload_n 3, 1) := dk_29 (dk_at dksX5_says_2 9 rfl rfl)
theorem dX5_says_56 : decode cX5_says 56 = .ok (.iadd, 1) := dk_96 (dk_at dksX5_says_2 10 rfl rfl)
theorem dX5_says_57 : decode cX5_says 57 = .ok (.iaload, 1) := dk_46 (dk_at dksX5_says_2 11 rfl rfl)
theorem dX5_says_58 : decode cX5_says 58 = .ok (.aload_n 0, 1) := dk_42 (dk_at dksX5_says_2 12 rfl rfl)
theorem dX5_says_59 : decode cX5_says 59 = .ok (.getfield 33, 3) := dk_180 0 33 (dk_at dksX5_says_2 13 rfl rfl)
theorem dX5_says_62 : decode cX5_says 62 = .ok (.bipush 107, 2) := dk_16 107 (dk_at dksX5_says_2 16 rfl rfl)
theorem dX5_says_64 : decode cX5_says 64 = .ok (.iload_n 1, 1) := dk_27 (dk_at dksX5_says_2 18 rfl rfl)
theorem dX5_says_65 : decode cX5_says 65 = .ok (.iadd, 1) := dk_96 (dk_at dksX5_says_2 19 rfl rfl)
theorem dX5_says_66 : decode cX5_says 66 = .ok (.iaload, 1) := dk_46 (dk_at dksX5_says_2 20 rfl rfl)
theorem dX5_says_67 : decode cX5_says 67 = .ok (.if_icmp .ne 14, 3) := dk_160 0 14 (dk_at dksX5_says_2 21 rfl rfl)
theorem dX5_says_70 : decode cX5_says 70 = .ok (.aload_n 0, 1) := dk_42 (dk_at dksX5_says_3 0 rfl rfl)
theorem dX5_says_71 : decode cX5_says 71 = .ok (.getfield 33, 3) := dk_180 0 33 (dk_at dksX5_says_3 1 rfl rfl)
theorem dX5_says_74 : decode cX5_says 74 = .ok (.sipush 132, 3) := dk_17 0 132 (dk_at dksX5_says_3 4 rfl rfl)
theorem dX5_says_77 : decode cX5_says 77 = .ok (.iload_n 2, 1) := dk_28 (dk_at dksX5_says_3 7 rfl rfl)
theorem dX5_says_78 : decode cX5_says 78 = .ok (.iadd, 1) := dk_96 (dk_at dksX5_says_3 8 rfl rfl)
theorem dX5_says_79 : decode cX5_says 79 = .ok (.iconst 1, 1) := dk_4 (dk_at dksX5_says_3 9 rfl rfl)
theorem dX5_says_80 : decode cX5_says 80 = .ok (.iastore, 1) := dk_79 (dk_at dksX5_says_3 10 rfl rfl)
theorem dX5_says_81 : decode cX5_says 81 = .ok (.iinc 3 1, 3) := dk_132 3 1 (dk_at dksX5_says_3 11 rfl rfl)
theorem dX5_says_84 : decode cX5_says 84 = .ok (.goto (-45), 3) := dk_167 255 211 (dk_at dksX5_says_3 14 rfl rfl)
theorem dX5_says_87 : decode cX5_says 87 = .ok (.return_, 1) := dk_177 (dk_at dksX5_says_3 17 rfl rfl)
abbrev cX5_hours : ByteArray := prog_26_method_52_code
def yX5_hours : MethodName := ⟨RX5, "hours", "(I)I"⟩
def dkwX5_hours_2 : List UInt8 := [132, 2, 1, 167, 255, 237, 28, 172]
abbrev dktX5_hours_2 : List UInt8 := dkwX5_hours_2 ++ []
def dkwX5_hours_1 : List UInt8 := [3, 172, 42, 182, 1, 13, 3, 61, 28, 27, 162, 0, 20, 42, 182, 1, 7, 154, 0, 13, 42, 182, 1, 36]
abbrev dktX5_hours_1 : List UInt8 := dkwX5_hours_1 ++ dktX5_hours_2
def dkwX5_hours_0 : List UInt8 := [42, 3, 181, 0, 1, 27, 4, 16, 99, 184, 0, 187, 154, 0, 5, 2, 172, 42, 182, 1, 7, 153, 0, 5]
abbrev dktX5_hours_0 : List UInt8 := dkwX5_hours_0 ++ dktX5_hours_1
theorem dksX5_hours_0 : cX5_hours.data.toList.drop 0 = dktX5_hours_0 := by decide +kernel
theorem dksX5_hours_1 : cX5_hours.data.toList.drop 24 = dktX5_hours_1 := dk_seg dksX5_hours_0 24 rfl rfl
theorem dksX5_hours_2 : cX5_hours.data.toList.drop 48 = dktX5_hours_2 := dk_seg dksX5_hours_1 24 rfl rfl
theorem dX5_hours_0 : decode cX5_hours 0 = .ok (.aload_n 0, 1) := dk_42 (dk_at dksX5_hours_0 0 rfl rfl)
theorem dX5_hours_1 : decode cX5_hours 1 = .ok (.iconst 0, 1) := dk_3 (dk_at dksX5_hours_0 1 rfl rfl)
theorem dX5_hours_2 : decode cX5_hours 2 = .ok (.putfield 1, 3) := dk_181 0 1 (dk_at dksX5_hours_0 2 rfl rfl)
theorem dX5_hours_5 : decode cX5_hours 5 = .ok (.iload_n 1, 1) := dk_27 (dk_at dksX5_hours_0 5 rfl rfl)
theorem dX5_hours_6 : decode cX5_hours 6 = .ok (.iconst 1, 1) := dk_4 (dk_at dksX5_hours_0 6 rfl rfl)
theorem dX5_hours_7 : decode cX5_hours 7 = .ok (.bipush 99, 2) := dk_16 99 (dk_at dksX5_hours_0 7 rfl rfl)
theorem dX5_hours_9 : decode cX5_hours 9 = .ok (.invokestatic 187, 3) := dk_184 0 187 (dk_at dksX5_hours_0 9 rfl rfl)
theorem dX5_hours_12 : decode cX5_hours 12 = .ok (.ifCond .ne 5, 3) := dk_154 0 5 (dk_at dksX5_hours_0 12 rfl rfl)
theorem dX5_hours_15 : decode cX5_hours 15 = .ok (.iconst (-1), 1) := dk_2 (dk_at dksX5_hours_0 15 rfl rfl)
theorem dX5_hours_16 : decode cX5_hours 16 = .ok (.ireturn, 1) := dk_172 (dk_at dksX5_hours_0 16 rfl rfl)
theorem dX5_hours_17 : decode cX5_hours 17 = .ok (.aload_n 0, 1) := dk_42 (dk_at dksX5_hours_0 17 rfl rfl)
theorem dX5_hours_18 : decode cX5_hours 18 = .ok (.invokevirtual 263, 3) := dk_182 1 7 (dk_at dksX5_hours_0 18 rfl rfl)
theorem dX5_hours_21 : decode cX5_hours 21 = .ok (.ifCond .eq 5, 3) := dk_153 0 5 (dk_at dksX5_hours_0 21 rfl rfl)
theorem dX5_hours_24 : decode cX5_hours 24 = .ok (.iconst 0, 1) := dk_3 (dk_at dksX5_hours_1 0 rfl rfl)
theorem dX5_hours_25 : decode cX5_hours 25 = .ok (.ireturn, 1) := dk_172 (dk_at dksX5_hours_1 1 rfl rfl)
theorem dX5_hours_26 : decode cX5_hours 26 = .ok (.aload_n 0, 1) := dk_42 (dk_at dksX5_hours_1 2 rfl rfl)
theorem dX5_hours_27 : decode cX5_hours 27 = .ok (.invokevirtual 269, 3) := dk_182 1 13 (dk_at dksX5_hours_1 3 rfl rfl)
theorem dX5_hours_30 : decode cX5_hours 30 = .ok (.iconst 0, 1) := dk_3 (dk_at dksX5_hours_1 6 rfl rfl)
theorem dX5_hours_31 : decode cX5_hours 31 = .ok (.istore_n 2, 1) := dk_61 (dk_at dksX5_hours_1 7 rfl rfl)
theorem dX5_hours_32 : decode cX5_hours 32 = .ok (.iload_n 2, 1) := dk_28 (dk_at dksX5_hours_1 8 rfl rfl)
theorem dX5_hours_33 : decode cX5_hours 33 = .ok (.iload_n 1, 1) := dk_27 (dk_at dksX5_hours_1 9 rfl rfl)
theorem dX5_hours_34 : decode cX5_hours 34 = .ok (.if_icmp .ge 20, 3) := dk_162 0 20 (dk_at dksX5_hours_1 10 rfl rfl)
theorem dX5_hours_37 : decode cX5_hours 37 = .ok (.aload_n 0, 1) := dk_42 (dk_at dksX5_hours_1 13 rfl rfl)
theorem dX5_hours_38 : decode cX5_hours 38 = .ok (.invokevirtual 263, 3) := dk_182 1 7 (dk_at dksX5_hours_1 14 rfl rfl)
theorem dX5_hours_41 : decode cX5_hours 41 = .ok (.ifCond .ne 13, 3) := dk_154 0 13 (dk_at dksX5_hours_1 17 rfl rfl)
theorem dX5_hours_44 : decode cX5_hours 44 = .ok (.aload_n 0, 1) := dk_42 (dk_at dksX5_hours_1 20 rfl rfl)
theorem dX5_hours_45 : decode cX5_hours 45 = .ok (.invokevirtual 292, 3) := dk_182 1 36 (dk_at dksX5_hours_1 21 rfl rfl)
theorem dX5_hours_48 : decode cX5_hours 48 = .ok (.iinc 2 1, 3) := dk_132 2 1 (dk_at dksX5_hours_2 0 rfl rfl)
theorem dX5_hours_51 : decode cX5_hours 51 = .ok (.goto (-19), 3) := dk_167 255 237 (dk_at dksX5_hours_2 3 rfl rfl)
theorem dX5_hours_54 : decode cX5_hours 54 = .ok (.iload_n 2, 1) := dk_28 (dk_at dksX5_hours_2 6 rfl rfl)
theorem dX5_hours_55 : decode cX5_hours 55 = .ok (.ireturn, 1) := dk_172 (dk_at dksX5_hours_2 7 rfl rfl)
abbrev cX5_hour : ByteArray := prog_26_method_47_code
def yX5_hour : MethodName := ⟨RX5, "hour", "()V"⟩
def dkwX5_hour_1 : List UInt8 := [27, 96, 3, 79, 132, 1, 1, 167, 255, 238, 177]
abbrev dktX5_hour_1 : List UInt8 := dkwX5_hour_1 ++ []
def dkwX5_hour_0 : List UInt8 := [42, 180, 0, 33, 16, 106, 92, 46, 4, 96, 79, 3, 60, 27, 7, 162, 0, 19, 42, 180, 0, 33, 16, 111]
abbrev dktX5_hour_0 : List UInt8 := dkwX5_hour_0 ++ dktX5_hour_1
theorem dksX5_hour_0 : cX5_hour.data.toList.drop 0 = dktX5_hour_0 := by decide +kernel
theorem dksX5_hour_1 : cX5_hour.data.toList.drop 24 = dktX5_hour_1 := dk_seg dksX5_hour_0 24 rfl rfl
theorem dX5_hour_0 : decode cX5_hour 0 = .ok (.aload_n 0, 1) := dk_42 (dk_at dksX5_hour_0 0 rfl rfl)
theorem dX5_hour_1 : decode cX5_hour 1 = .ok (.getfield 33, 3) := dk_180 0 33 (dk_at dksX5_hour_0 1 rfl rfl)
theorem dX5_hour_4 : decode cX5_hour 4 = .ok (.bipush 106, 2) := dk_16 106 (dk_at dksX5_hour_0 4 rfl rfl)
theorem dX5_hour_6 : decode cX5_hour 6 = .ok (.dup2, 1) := dk_92 (dk_at dksX5_hour_0 6 rfl rfl)
theorem dX5_hour_7 : decode cX5_hour 7 = .ok (.iaload, 1) := dk_46 (dk_at dksX5_hour_0 7 rfl rfl)
theorem dX5_hour_8 : decode cX5_hour 8 = .ok (.iconst 1, 1) := dk_4 (dk_at dksX5_hour_0 8 rfl rfl)
theorem dX5_hour_9 : decode cX5_hour 9 = .ok (.iadd, 1) := dk_96 (dk_at dksX5_hour_0 9 rfl rfl)
theorem dX5_hour_10 : decode cX5_hour 10 = .ok (.iastore, 1) := dk_79 (dk_at dksX5_hour_0 10 rfl rfl)
theorem dX5_hour_11 : decode cX5_hour 11 = .ok (.iconst 0, 1) := dk_3 (dk_at dksX5_hour_0 11 rfl rfl)
theorem dX5_hour_12 : decode cX5_hour 12 = .ok (.istore_n 1, 1) := dk_60 (dk_at dksX5_hour_0 12 rfl rfl)
theorem dX5_hour_13 : decode cX5_hour 13 = .ok (.iload_n 1, 1) := dk_27 (dk_at dksX5_hour_0 13 rfl rfl)
theorem dX5_hour_14 : decode cX5_hour 14 = .ok (.iconst 4, 1) := dk_7 (dk_at dksX5_hour_0 14 rfl rfl)
theorem dX5_hour_15 : decode cX5_hour 15 = .ok (.if_icmp .ge 19, 3) := dk_162 0 19 (dk_at dksX5_hour_0 15 rfl rfl)
theorem dX5_hour_18 : decode cX5_hour 18 = .ok (.aload_n 0, 1) := dk_42 (dk_at dksX5_hour_0 18 rfl rfl)
theorem dX5_hour_19 : decode cX5_hour 19 = .ok (.getfield 33, 3) := dk_180 0 33 (dk_at dksX5_hour_0 19 rfl rfl)
theorem dX5_hour_22 : decode cX5_hour 22 = .ok (.bipush 111, 2) := dk_16 111 (dk_at dksX5_hour_0 22 rfl rfl)
theorem dX5_hour_24 : decode cX5_hour 24 = .ok (.iload_n 1, 1) := dk_27 (dk_at dksX5_hour_1 0 rfl rfl)
theorem dX5_hour_25 : decode cX5_hour 25 = .ok (.iadd, 1) := dk_96 (dk_at dksX5_hour_1 1 rfl rfl)
theorem dX5_hour_26 : decode cX5_hour 26 = .ok (.iconst 0, 1) := dk_3 (dk_at dksX5_hour_1 2 rfl rfl)
theorem dX5_hour_27 : decode cX5_hour 27 = .ok (.iastore, 1) := dk_79 (dk_at dksX5_hour_1 3 rfl rfl)
theorem dX5_hour_28 : decode cX5_hour 28 = .ok (.iinc 1 1, 3) := dk_132 1 1 (dk_at dksX5_hour_1 4 rfl rfl)
theorem dX5_hour_31 : decode cX5_hour 31 = .ok (.goto (-18), 3) := dk_167 255 238 (dk_at dksX5_hour_1 7 rfl rfl)
theorem dX5_hour_34 : decode cX5_hour 34 = .ok (.return_, 1) := dk_177 (dk_at dksX5_hour_1 10 rfl rfl)
abbrev cX5_done : ByteArray := prog_26_method_53_code
def yX5_done : MethodName := ⟨RX5, "done", "(II)I"⟩
def dkwX5_done_2 : List UInt8 := [2, 172]
abbrev dktX5_done_2 : List UInt8 := dkwX5_done_2 ++ []
def dkwX5_done_1 : List UInt8 := [6, 184, 0, 187, 153, 0, 20, 42, 180, 0, 33, 17, 0, 148, 7, 27, 104, 96, 28, 96, 46, 167, 0, 4]
abbrev dktX5_done_1 : List UInt8 := dkwX5_done_1 ++ dktX5_done_2
def dkwX5_done_0 : List UInt8 := [42, 3, 181, 0, 1, 27, 3, 42, 180, 0, 33, 16, 123, 46, 4, 100, 184, 0, 187, 153, 0, 29, 28, 3]
abbrev dktX5_done_0 : List UInt8 := dkwX5_done_0 ++ dktX5_done_1
theorem dksX5_done_0 : cX5_done.data.toList.drop 0 = dktX5_done_0 := by decide +kernel
theorem dksX5_done_1 : cX5_done.data.toList.drop 24 = dktX5_done_1 := dk_seg dksX5_done_0 24 rfl rfl
theorem dksX5_done_2 : cX5_done.data.toList.drop 48 = dktX5_done_2 := dk_seg dksX5_done_1 24 rfl rfl
theorem dX5_done_0 : decode cX5_done 0 = .ok (.aload_n 0, 1) := dk_42 (dk_at dksX5_done_0 0 rfl rfl)
theorem dX5_done_1 : decode cX5_done 1 = .ok (.iconst 0, 1) := dk_3 (dk_at dksX5_done_0 1 rfl rfl)
theorem dX5_done_2 : decode cX5_done 2 = .ok (.putfield 1, 3) := dk_181 0 1 (dk_at dksX5_done_0 2 rfl rfl)
theorem dX5_done_5 : decode cX5_done 5 = .ok (.iload_n 1, 1) := dk_27 (dk_at dksX5_done_0 5 rfl rfl)
theorem dX5_done_6 : decode cX5_done 6 = .ok (.iconst 0, 1) := dk_3 (dk_at dksX5_done_0 6 rfl rfl)
theorem dX5_done_7 : decode cX5_done 7 = .ok (.aload_n 0, 1) := dk_42 (dk_at dksX5_done_0 7 rfl rfl)
theorem dX5_done_8 : decode cX5_done 8 = .ok (.getfield 33, 3) := dk_180 0 33 (dk_at dksX5_done_0 8 rfl rfl)
theorem dX5_done_11 : decode cX5_done 11 = .ok (.bipush 123, 2) := dk_16 123 (dk_at dksX5_done_0 11 rfl rfl)
theorem dX5_done_13 : decode cX5_done 13 = .ok (.iaload, 1) := dk_46 (dk_at dksX5_done_0 13 rfl rfl)
theorem dX5_done_14 : decode cX5_done 14 = .ok (.iconst 1, 1) := dk_4 (dk_at dksX5_done_0 14 rfl rfl)
theorem dX5_done_15 : decode cX5_done 15 = .ok (.isub, 1) := dk_100 (dk_at dksX5_done_0 15 rfl rfl)
theorem dX5_done_16 : decode cX5_done 16 = .ok (.invokestatic 187, 3) := dk_184 0 187 (dk_at dksX5_done_0 16 rfl rfl)
theorem dX5_done_19 : decode cX5_done 19 = .ok (.ifCond .eq 29, 3) := dk_153 0 29 (dk_at dksX5_done_0 19 rfl rfl)
theorem dX5_done_22 : decode cX5_done 22 = .ok (.iload_n 2, 1) := dk_28 (dk_at dksX5_done_0 22 rfl rfl)
theorem dX5_done_23 : decode cX5_done 23 = .ok (.iconst 0, 1) := dk_3 (dk_at dksX5_done_0 23 rfl rfl)
theorem dX5_done_24 : decode cX5_done 24 = .ok (.iconst 3, 1) := dk_6 (dk_at dksX5_done_1 0 rfl rfl)
theorem dX5_done_25 : decode cX5_done 25 = .ok (.invokestatic 187, 3) := dk_184 0 187 (dk_at dksX5_done_1 1 rfl rfl)
theorem dX5_done_28 : decode cX5_done 28 = .ok (.ifCond .eq 20, 3) := dk_153 0 20 (dk_at dksX5_done_1 4 rfl rfl)
theorem dX5_done_31 : decode cX5_done 31 = .ok (.aload_n 0, 1) := dk_42 (dk_at dksX5_done_1 7 rfl rfl)
theorem dX5_done_32 : decode cX5_done 32 = .ok (.getfield 33, 3) := dk_180 0 33 (dk_at dksX5_done_1 8 rfl rfl)
theorem dX5_done_35 : decode cX5_done 35 = .ok (.sipush 148, 3) := dk_17 0 148 (dk_at dksX5_done_1 11 rfl rfl)
theorem dX5_done_38 : decode cX5_done 38 = .ok (.iconst 4, 1) := dk_7 (dk_at dksX5_done_1 14 rfl rfl)
theorem dX5_done_39 : decode cX5_done 39 = .ok (.iload_n 1, 1) := dk_27 (dk_at dksX5_done_1 15 rfl rfl)
theorem dX5_done_40 : decode cX5_done 40 = .ok (.imul, 1) := dk_104 (dk_at dksX5_done_1 16 rfl rfl)
theorem dX5_done_41 : decode cX5_done 41 = .ok (.iadd, 1) := dk_96 (dk_at dksX5_done_1 17 rfl rfl)
theorem dX5_done_42 : decode cX5_done 42 = .ok (.iload_n 2, 1) := dk_28 (dk_at dksX5_done_1 18 rfl rfl)
theorem dX5_done_43 : decode cX5_done 43 = .ok (.iadd, 1) := dk_96 (dk_at dksX5_done_1 19 rfl rfl)
theorem dX5_done_44 : decode cX5_done 44 = .ok (.iaload, 1) := dk_46 (dk_at dksX5_done_1 20 rfl rfl)
theorem dX5_done_45 : decode cX5_done 45 = .ok (.goto 4, 3) := dk_167 0 4 (dk_at dksX5_done_1 21 rfl rfl)
theorem dX5_done_48 : decode cX5_done 48 = .ok (.iconst (-1), 1) := dk_2 (dk_at dksX5_done_2 0 rfl rfl)
theorem dX5_done_49 : decode cX5_done 49 = .ok (.ireturn, 1) := dk_172 (dk_at dksX5_done_2 1 rfl rfl)
abbrev cX5_undo : ByteArray := prog_26_method_55_code
def yX5_undo : MethodName := ⟨RX5, "undo", "()I"⟩
def dkwX5_undo_2 : List UInt8 := [42, 180, 0, 241, 104, 27, 96, 46, 79, 132, 1, 1, 167, 255, 222, 42, 180, 0, 241, 172]
abbrev dktX5_undo_2 : List UInt8 := dkwX5_undo_2 ++ []
def dkwX5_undo_1 : List UInt8 := [3, 60, 27, 17, 1, 114, 162, 0, 33, 42, 180, 0, 33, 16, 106, 27, 96, 42, 180, 0, 53, 17, 1, 114]
abbrev dktX5_undo_1 : List UInt8 := dkwX5_undo_1 ++ dktX5_undo_2
def dkwX5_undo_0 : List UInt8 := [42, 3, 181, 0, 1, 42, 180, 0, 241, 154, 0, 5, 2, 172, 42, 89, 180, 0, 241, 4, 100, 181, 0, 241]
abbrev dktX5_undo_0 : List UInt8 := dkwX5_undo_0 ++ dktX5_undo_1
theorem dksX5_undo_0 : cX5_undo.data.toList.drop 0 = dktX5_undo_0 := by decide +kernel
theorem dksX5_undo_1 : cX5_undo.data.toList.drop 24 = dktX5_undo_1 := dk_seg dksX5_undo_0 24 rfl rfl
theorem dksX5_undo_2 : cX5_undo.data.toList.drop 48 = dktX5_undo_2 := dk_seg dksX5_undo_1 24 rfl rfl
theorem dX5_undo_0 : decode cX5_undo 0 = .ok (.aload_n 0, 1) := dk_42 (dk_at dksX5_undo_0 0 rfl rfl)
theorem dX5_undo_1 : decode cX5_undo 1 = .ok (.iconst 0, 1) := dk_3 (dk_at dksX5_undo_0 1 rfl rfl)
theorem dX5_undo_2 : decode cX5_undo 2 = .ok (.putfield 1, 3) := dk_181 0 1 (dk_at dksX5_undo_0 2 rfl rfl)
theorem dX5_undo_5 : decode cX5_undo 5 = .ok (.aload_n 0, 1) := dk_42 (dk_at dksX5_undo_0 5 rfl rfl)
theorem dX5_undo_6 : decode cX5_undo 6 = .ok (.getfield 241, 3) := dk_180 0 241 (dk_at dksX5_undo_0 6 rfl rfl)
theorem dX5_undo_9 : decode cX5_undo 9 = .ok (.ifCond .ne 5, 3) := dk_154 0 5 (dk_at dksX5_undo_0 9 rfl rfl)
theorem dX5_undo_12 : decode cX5_undo 12 = .ok (.iconst (-1), 1) := dk_2 (dk_at dksX5_undo_0 12 rfl rfl)
theorem dX5_undo_13 : decode cX5_undo 13 = .ok (.ireturn, 1) := dk_172 (dk_at dksX5_undo_0 13 rfl rfl)
theorem dX5_undo_14 : decode cX5_undo 14 = .ok (.aload_n 0, 1) := dk_42 (dk_at dksX5_undo_0 14 rfl rfl)
theorem dX5_undo_15 : decode cX5_undo 15 = .ok (.dup, 1) := dk_89 (dk_at dksX5_undo_0 15 rfl rfl)
theorem dX5_undo_16 : decode cX5_undo 16 = .ok (.getfield 241, 3) := dk_180 0 241 (dk_at dksX5_undo_0 16 rfl rfl)
theorem dX5_undo_19 : decode cX5_undo 19 = .ok (.iconst 1, 1) := dk_4 (dk_at dksX5_undo_0 19 rfl rfl)
theorem dX5_undo_20 : decode cX5_undo 20 = .ok (.isub, 1) := dk_100 (dk_at dksX5_undo_0 20 rfl rfl)
theorem dX5_undo_21 : decode cX5_undo 21 = .ok (.putfield 241, 3) := dk_181 0 241 (dk_at dksX5_undo_0 21 rfl rfl)
theorem dX5_undo_24 : decode cX5_undo 24 = .ok (.iconst 0, 1) := dk_3 (dk_at dksX5_undo_1 0 rfl rfl)
theorem dX5_undo_25 : decode cX5_undo 25 = .ok (.istore_n 1, 1) := dk_60 (dk_at dksX5_undo_1 1 rfl rfl)
theorem dX5_undo_26 : decode cX5_undo 26 = .ok (.iload_n 1, 1) := dk_27 (dk_at dksX5_undo_1 2 rfl rfl)
theorem dX5_undo_27 : decode cX5_undo 27 = .ok (.sipush 370, 3) := dk_17 1 114 (dk_at dksX5_undo_1 3 rfl rfl)
theorem dX5_undo_30 : decode cX5_undo 30 = .ok (.if_icmp .ge 33, 3) := dk_162 0 33 (dk_at dksX5_undo_1 6 rfl rfl)
theorem dX5_undo_33 : decode cX5_undo 33 = .ok (.aload_n 0, 1) := dk_42 (dk_at dksX5_undo_1 9 rfl rfl)
theorem dX5_undo_34 : decode cX5_undo 34 = .ok (.getfield 33, 3) := dk_180 0 33 (dk_at dksX5_undo_1 10 rfl rfl)
theorem dX5_undo_37 : decode cX5_undo 37 = .ok (.bipush 106, 2) := dk_16 106 (dk_at dksX5_undo_1 13 rfl rfl)
theorem dX5_undo_39 : decode cX5_undo 39 = .ok (.iload_n 1, 1) := dk_27 (dk_at dksX5_undo_1 15 rfl rfl)
theorem dX5_undo_40 : decode cX5_undo 40 = .ok (.iadd, 1) := dk_96 (dk_at dksX5_undo_1 16 rfl rfl)
theorem dX5_undo_41 : decode cX5_undo 41 = .ok (.aload_n 0, 1) := dk_42 (dk_at dksX5_undo_1 17 rfl rfl)
theorem dX5_undo_42 : decode cX5_undo 42 = .ok (.getfield 53, 3) := dk_180 0 53 (dk_at dksX5_undo_1 18 rfl rfl)
theorem dX5_undo_45 : decode cX5_undo 45 = .ok (.sipush 370, 3) := dk_17 1 114 (dk_at dksX5_undo_1 21 rfl rfl)
theorem dX5_undo_48 : decode cX5_undo 48 = .ok (.aload_n 0, 1) := dk_42 (dk_at dksX5_undo_2 0 rfl rfl)
theorem dX5_undo_49 : decode cX5_undo 49 = .ok (.getfield 241, 3) := dk_180 0 241 (dk_at dksX5_undo_2 1 rfl rfl)
theorem dX5_undo_52 : decode cX5_undo 52 = .ok (.imul, 1) := dk_104 (dk_at dksX5_undo_2 4 rfl rfl)
theorem dX5_undo_53 : decode cX5_undo 53 = .ok (.iload_n 1, 1) := dk_27 (dk_at dksX5_undo_2 5 rfl rfl)
theorem dX5_undo_54 : decode cX5_undo 54 = .ok (.iadd, 1) := dk_96 (dk_at dksX5_undo_2 6 rfl rfl)
theorem dX5_undo_55 : decode cX5_undo 55 = .ok (.iaload, 1) := dk_46 (dk_at dksX5_undo_2 7 rfl rfl)
theorem dX5_undo_56 : decode cX5_undo 56 = .ok (.iastore, 1) := dk_79 (dk_at dksX5_undo_2 8 rfl rfl)
theorem dX5_undo_57 : decode cX5_undo 57 = .ok (.iinc 1 1, 3) := dk_132 1 1 (dk_at dksX5_undo_2 9 rfl rfl)
theorem dX5_undo_60 : decode cX5_undo 60 = .ok (.goto (-34), 3) := dk_167 255 222 (dk_at dksX5_undo_2 12 rfl rfl)
theorem dX5_undo_63 : decode cX5_undo 63 = .ok (.aload_n 0, 1) := dk_42 (dk_at dksX5_undo_2 15 rfl rfl)
theorem dX5_undo_64 : decode cX5_undo 64 = .ok (.getfield 241, 3) := dk_180 0 241 (dk_at dksX5_undo_2 16 rfl rfl)
theorem dX5_undo_67 : decode cX5_undo 67 = .ok (.ireturn, 1) := dk_172 (dk_at dksX5_undo_2 19 rfl rfl)
abbrev cX5_status : ByteArray := prog_26_method_66_code
def yX5_status : MethodName := ⟨RX5, "status", "(II)I"⟩
def dkwX5_status_1 : List UInt8 := [172]
abbrev dktX5_status_1 : List UInt8 := dkwX5_status_1 ++ []
def dkwX5_status_0 : List UInt8 := [42, 3, 181, 0, 1, 42, 27, 28, 182, 1, 61, 153, 0, 12, 42, 27, 28, 182, 1, 1, 167, 0, 4, 2]
abbrev dktX5_status_0 : List UInt8 := dkwX5_status_0 ++ dktX5_status_1
theorem dksX5_status_0 : cX5_status.data.toList.drop 0 = dktX5_status_0 := by decide +kernel
theorem dksX5_status_1 : cX5_status.data.toList.drop 24 = dktX5_status_1 := dk_seg dksX5_status_0 24 rfl rfl
theorem dX5_status_0 : decode cX5_status 0 = .ok (.aload_n 0, 1) := dk_42 (dk_at dksX5_status_0 0 rfl rfl)
theorem dX5_status_1 : decode cX5_status 1 = .ok (.iconst 0, 1) := dk_3 (dk_at dksX5_status_0 1 rfl rfl)
theorem dX5_status_2 : decode cX5_status 2 = .ok (.putfield 1, 3) := dk_181 0 1 (dk_at dksX5_status_0 2 rfl rfl)
theorem dX5_status_5 : decode cX5_status 5 = .ok (.aload_n 0, 1) := dk_42 (dk_at dksX5_status_0 5 rfl rfl)
theorem dX5_status_6 : decode cX5_status 6 = .ok (.iload_n 1, 1) := dk_27 (dk_at dksX5_status_0 6 rfl rfl)
theorem dX5_status_7 : decode cX5_status 7 = .ok (.iload_n 2, 1) := dk_28 (dk_at dksX5_status_0 7 rfl rfl)
theorem dX5_status_8 : decode cX5_status 8 = .ok (.invokevirtual 317, 3) := dk_182 1 61 (dk_at dksX5_status_0 8 rfl rfl)
theorem dX5_status_11 : decode cX5_status 11 = .ok (.ifCond .eq 12, 3) := dk_153 0 12 (dk_at dksX5_status_0 11 rfl rfl)
theorem dX5_status_14 : decode cX5_status 14 = .ok (.aload_n 0, 1) := dk_42 (dk_at dksX5_status_0 14 rfl rfl)
theorem dX5_status_15 : decode cX5_status 15 = .ok (.iload_n 1, 1) := dk_27 (dk_at dksX5_status_0 15 rfl rfl)
theorem dX5_status_16 : decode cX5_status 16 = .ok (.iload_n 2, 1) := dk_28 (dk_at dksX5_status_0 16 rfl rfl)
theorem dX5_status_17 : decode cX5_status 17 = .ok (.invokevirtual 257, 3) := dk_182 1 1 (dk_at dksX5_status_0 17 rfl rfl)
theorem dX5_status_20 : decode cX5_status 20 = .ok (.goto 4, 3) := dk_167 0 4 (dk_at dksX5_status_0 20 rfl rfl)
theorem dX5_status_23 : decode cX5_status 23 = .ok (.iconst (-1), 1) := dk_2 (dk_at dksX5_status_0 23 rfl rfl)
theorem dX5_status_24 : decode cX5_status 24 = .ok (.ireturn, 1) := dk_172 (dk_at dksX5_status_1 0 rfl rfl)
abbrev cX5_isReading : ByteArray := prog_26_method_65_code
def yX5_isReading : MethodName := ⟨RX5, "isReading", "(II)Z"⟩
def dkwX5_isReading_0 : List UInt8 := [42, 27, 182, 0, 244, 153, 0, 17, 28, 3, 16, 7, 184, 0, 187, 153, 0, 7, 4, 167, 0, 4, 3, 172]
abbrev dktX5_isReading_0 : List UInt8 := dkwX5_isReading_0 ++ []
theorem dksX5_isReading_0 : cX5_isReading.data.toList.drop 0 = dktX5_isReading_0 := by decide +kernel
theorem dX5_isReading_0 : decode cX5_isReading 0 = .ok (.aload_n 0, 1) := dk_42 (dk_at dksX5_isReading_0 0 rfl rfl)
theorem dX5_isReading_1 : decode cX5_isReading 1 = .ok (.iload_n 1, 1) := dk_27 (dk_at dksX5_isReading_0 1 rfl rfl)
theorem dX5_isReading_2 : decode cX5_isReading 2 = .ok (.invokevirtual 244, 3) := dk_182 0 244 (dk_at dksX5_isReading_0 2 rfl rfl)
theorem dX5_isReading_5 : decode cX5_isReading 5 = .ok (.ifCond .eq 17, 3) := dk_153 0 17 (dk_at dksX5_isReading_0 5 rfl rfl)
theorem dX5_isReading_8 : decode cX5_isReading 8 = .ok (.iload_n 2, 1) := dk_28 (dk_at dksX5_isReading_0 8 rfl rfl)
theorem dX5_isReading_9 : decode cX5_isReading 9 = .ok (.iconst 0, 1) := dk_3 (dk_at dksX5_isReading_0 9 rfl rfl)
theorem dX5_isReading_10 : decode cX5_isReading 10 = .ok (.bipush 7, 2) := dk_16 7 (dk_at dksX5_isReading_0 10 rfl rfl)
theorem dX5_isReading_12 : decode cX5_isReading 12 = .ok (.invokestatic 187, 3) := dk_184 0 187 (dk_at dksX5_isReading_0 12 rfl rfl)
theorem dX5_isReading_15 : decode cX5_isReading 15 = .ok (.ifCond .eq 7, 3) := dk_153 0 7 (dk_at dksX5_isReading_0 15 rfl rfl)
theorem dX5_isReading_18 : decode cX5_isReading 18 = .ok (.iconst 1, 1) := dk_4 (dk_at dksX5_isReading_0 18 rfl rfl)
theorem dX5_isReading_19 : decode cX5_isReading 19 = .ok (.goto 4, 3) := dk_167 0 4 (dk_at dksX5_isReading_0 19 rfl rfl)
theorem dX5_isReading_22 : decode cX5_isReading 22 = .ok (.iconst 0, 1) := dk_3 (dk_at dksX5_isReading_0 22 rfl rfl)
theorem dX5_isReading_23 : decode cX5_isReading 23 = .ok (.ireturn, 1) := dk_172 (dk_at dksX5_isReading_0 23 rfl rfl)
abbrev cX5_readings : ByteArray := prog_26_method_67_code
def yX5_readings : MethodName := ⟨RX5, "readings", "(II)I"⟩
def dkwX5_readings_2 : List UInt8 := [4, 21, 4, 120, 167, 0, 4, 3, 128, 62, 132, 4, 1, 167, 255, 224, 29, 172]
abbrev dktX5_readings_2 : List UInt8 := dkwX5_readings_2 ++ []
def dkwX5_readings_1 : List UInt8 := [3, 62, 3, 54, 4, 21, 4, 16, 8, 162, 0, 31, 29, 42, 27, 21, 4, 182, 1, 1, 28, 160, 0, 10]
abbrev dktX5_readings_1 : List UInt8 := dkwX5_readings_1 ++ dktX5_readings_2
def dkwX5_readings_0 : List UInt8 := [42, 3, 181, 0, 1, 42, 27, 182, 0, 244, 153, 0, 12, 28, 3, 7, 184, 0, 187, 154, 0, 5, 2, 172]
abbrev dktX5_readings_0 : List UInt8 := dkwX5_readings_0 ++ dktX5_readings_1
theorem dksX5_readings_0 : cX5_readings.data.toList.drop 0 = dktX5_readings_0 := by decide +kernel
theorem dksX5_readings_1 : cX5_readings.data.toList.drop 24 = dktX5_readings_1 := dk_seg dksX5_readings_0 24 rfl rfl
theorem dksX5_readings_2 : cX5_readings.data.toList.drop 48 = dktX5_readings_2 := dk_seg dksX5_readings_1 24 rfl rfl
theorem dX5_readings_0 : decode cX5_readings 0 = .ok (.aload_n 0, 1) := dk_42 (dk_at dksX5_readings_0 0 rfl rfl)
theorem dX5_readings_1 : decode cX5_readings 1 = .ok (.iconst 0, 1) := dk_3 (dk_at dksX5_readings_0 1 rfl rfl)
theorem dX5_readings_2 : decode cX5_readings 2 = .ok (.putfield 1, 3) := dk_181 0 1 (dk_at dksX5_readings_0 2 rfl rfl)
theorem dX5_readings_5 : decode cX5_readings 5 = .ok (.aload_n 0, 1) := dk_42 (dk_at dksX5_readings_0 5 rfl rfl)
theorem dX5_readings_6 : decode cX5_readings 6 = .ok (.iload_n 1, 1) := dk_27 (dk_at dksX5_readings_0 6 rfl rfl)
theorem dX5_readings_7 : decode cX5_readings 7 = .ok (.invokevirtual 244, 3) := dk_182 0 244 (dk_at dksX5_readings_0 7 rfl rfl)
theorem dX5_readings_10 : decode cX5_readings 10 = .ok (.ifCond .eq 12, 3) := dk_153 0 12 (dk_at dksX5_readings_0 10 rfl rfl)
theorem dX5_readings_13 : decode cX5_readings 13 = .ok (.iload_n 2, 1) := dk_28 (dk_at dksX5_readings_0 13 rfl rfl)
theorem dX5_readings_14 : decode cX5_readings 14 = .ok (.iconst 0, 1) := dk_3 (dk_at dksX5_readings_0 14 rfl rfl)
theorem dX5_readings_15 : decode cX5_readings 15 = .ok (.iconst 4, 1) := dk_7 (dk_at dksX5_readings_0 15 rfl rfl)
theorem dX5_readings_16 : decode cX5_readings 16 = .ok (.invokestatic 187, 3) := dk_184 0 187 (dk_at dksX5_readings_0 16 rfl rfl)
theorem dX5_readings_19 : decode cX5_readings 19 = .ok (.ifCond .ne 5, 3) := dk_154 0 5 (dk_at dksX5_readings_0 19 rfl rfl)
theorem dX5_readings_22 : decode cX5_readings 22 = .ok (.iconst (-1), 1) := dk_2 (dk_at dksX5_readings_0 22 rfl rfl)
theorem dX5_readings_23 : decode cX5_readings 23 = .ok (.ireturn, 1) := dk_172 (dk_at dksX5_readings_0 23 rfl rfl)
theorem dX5_readings_24 : decode cX5_readings 24 = .ok (.iconst 0, 1) := dk_3 (dk_at dksX5_readings_1 0 rfl rfl)
theorem dX5_readings_25 : decode cX5_readings 25 = .ok (.istore_n 3, 1) := dk_62 (dk_at dksX5_readings_1 1 rfl rfl)
theorem dX5_readings_26 : decode cX5_readings 26 = .ok (.iconst 0, 1) := dk_3 (dk_at dksX5_readings_1 2 rfl rfl)
theorem dX5_readings_27 : decode cX5_readings 27 = .ok (.istore 4, 2) := dk_54 4 (dk_at dksX5_readings_1 3 rfl rfl)
theorem dX5_readings_29 : decode cX5_readings 29 = .ok (.iload 4, 2) := dk_21 4 (dk_at dksX5_readings_1 5 rfl rfl)
theorem dX5_readings_31 : decode cX5_readings 31 = .ok (.bipush 8, 2) := dk_16 8 (dk_at dksX5_readings_1 7 rfl rfl)
theorem dX5_readings_33 : decode cX5_readings 33 = .ok (.if_icmp .ge 31, 3) := dk_162 0 31 (dk_at dksX5_readings_1 9 rfl rfl)
theorem dX5_readings_36 : decode cX5_readings 36 = .ok (.iload_n 3, 1) := dk_29 (dk_at dksX5_readings_1 12 rfl rfl)
theorem dX5_readings_37 : decode cX5_readings 37 = .ok (.aload_n 0, 1) := dk_42 (dk_at dksX5_readings_1 13 rfl rfl)
theorem dX5_readings_38 : decode cX5_readings 38 = .ok (.iload_n 1, 1) := dk_27 (dk_at dksX5_readings_1 14 rfl rfl)
theorem dX5_readings_39 : decode cX5_readings 39 = .ok (.iload 4, 2) := dk_21 4 (dk_at dksX5_readings_1 15 rfl rfl)
theorem dX5_readings_41 : decode cX5_readings 41 = .ok (.invokevirtual 257, 3) := dk_182 1 1 (dk_at dksX5_readings_1 17 rfl rfl)
theorem dX5_readings_44 : decode cX5_readings 44 = .ok (.iload_n 2, 1) := dk_28 (dk_at dksX5_readings_1 20 rfl rfl)
theorem dX5_readings_45 : decode cX5_readings 45 = .ok (.if_icmp .ne 10, 3) := dk_160 0 10 (dk_at dksX5_readings_1 21 rfl rfl)
theorem dX5_readings_48 : decode cX5_readings 48 = .ok (.iconst 1, 1) := dk_4 (dk_at dksX5_readings_2 0 rfl rfl)
theorem dX5_readings_49 : decode cX5_readings 49 = .ok (.iload 4, 2) := dk_21 4 (dk_at dksX5_readings_2 1 rfl rfl)
theorem dX5_readings_51 : decode cX5_readings 51 = .ok (.ishl, 1) := dk_120 (dk_at dksX5_readings_2 3 rfl rfl)
theorem dX5_readings_52 : decode cX5_readings 52 = .ok (.goto 4, 3) := dk_167 0 4 (dk_at dksX5_readings_2 4 rfl rfl)
theorem dX5_readings_55 : decode cX5_readings 55 = .ok (.iconst 0, 1) := dk_3 (dk_at dksX5_readings_2 7 rfl rfl)
theorem dX5_readings_56 : decode cX5_readings 56 = .ok (.ior, 1) := dk_128 (dk_at dksX5_readings_2 8 rfl rfl)
theorem dX5_readings_57 : decode cX5_readings 57 = .ok (.istore_n 3, 1) := dk_62 (dk_at dksX5_readings_2 9 rfl rfl)
theorem dX5_readings_58 : decode cX5_readings 58 = .ok (.iinc 4 1, 3) := dk_132 4 1 (dk_at dksX5_readings_2 10 rfl rfl)
theorem dX5_readings_61 : decode cX5_readings 61 = .ok (.goto (-32), 3) := dk_167 255 224 (dk_at dksX5_readings_2 13 rfl rfl)
theorem dX5_readings_64 : decode cX5_readings 64 = .ok (.iload_n 3, 1) := dk_29 (dk_at dksX5_readings_2 16 rfl rfl)
theorem dX5_readings_65 : decode cX5_readings 65 = .ok (.ireturn, 1) := dk_172 (dk_at dksX5_readings_2 17 rfl rfl)
abbrev cX5_broken : ByteArray := prog_26_method_68_code
def yX5_broken : MethodName := ⟨RX5, "broken", "(II)I"⟩
def dkwX5_broken_1 : List UInt8 := [172]
abbrev dktX5_broken_1 : List UInt8 := dkwX5_broken_1 ++ []
def dkwX5_broken_0 : List UInt8 := [42, 3, 181, 0, 1, 42, 27, 28, 182, 1, 61, 153, 0, 12, 42, 27, 28, 182, 1, 58, 167, 0, 4, 2]
abbrev dktX5_broken_0 : List UInt8 := dkwX5_broken_0 ++ dktX5_broken_1
theorem dksX5_broken_0 : cX5_broken.data.toList.drop 0 = dktX5_broken_0 := by decide +kernel
theorem dksX5_broken_1 : cX5_broken.data.toList.drop 24 = dktX5_broken_1 := dk_seg dksX5_broken_0 24 rfl rfl
theorem dX5_broken_0 : decode cX5_broken 0 = .ok (.aload_n 0, 1) := dk_42 (dk_at dksX5_broken_0 0 rfl rfl)
theorem dX5_broken_1 : decode cX5_broken 1 = .ok (.iconst 0, 1) := dk_3 (dk_at dksX5_broken_0 1 rfl rfl)
theorem dX5_broken_2 : decode cX5_broken 2 = .ok (.putfield 1, 3) := dk_181 0 1 (dk_at dksX5_broken_0 2 rfl rfl)
theorem dX5_broken_5 : decode cX5_broken 5 = .ok (.aload_n 0, 1) := dk_42 (dk_at dksX5_broken_0 5 rfl rfl)
theorem dX5_broken_6 : decode cX5_broken 6 = .ok (.iload_n 1, 1) := dk_27 (dk_at dksX5_broken_0 6 rfl rfl)
theorem dX5_broken_7 : decode cX5_broken 7 = .ok (.iload_n 2, 1) := dk_28 (dk_at dksX5_broken_0 7 rfl rfl)
theorem dX5_broken_8 : decode cX5_broken 8 = .ok (.invokevirtual 317, 3) := dk_182 1 61 (dk_at dksX5_broken_0 8 rfl rfl)
theorem dX5_broken_11 : decode cX5_broken 11 = .ok (.ifCond .eq 12, 3) := dk_153 0 12 (dk_at dksX5_broken_0 11 rfl rfl)
theorem dX5_broken_14 : decode cX5_broken 14 = .ok (.aload_n 0, 1) := dk_42 (dk_at dksX5_broken_0 14 rfl rfl)
theorem dX5_broken_15 : decode cX5_broken 15 = .ok (.iload_n 1, 1) := dk_27 (dk_at dksX5_broken_0 15 rfl rfl)
theorem dX5_broken_16 : decode cX5_broken 16 = .ok (.iload_n 2, 1) := dk_28 (dk_at dksX5_broken_0 16 rfl rfl)
theorem dX5_broken_17 : decode cX5_broken 17 = .ok (.invokevirtual 314, 3) := dk_182 1 58 (dk_at dksX5_broken_0 17 rfl rfl)
theorem dX5_broken_20 : decode cX5_broken 20 = .ok (.goto 4, 3) := dk_167 0 4 (dk_at dksX5_broken_0 20 rfl rfl)
theorem dX5_broken_23 : decode cX5_broken 23 = .ok (.iconst (-1), 1) := dk_2 (dk_at dksX5_broken_0 23 rfl rfl)
theorem dX5_broken_24 : decode cX5_broken 24 = .ok (.ireturn, 1) := dk_172 (dk_at dksX5_broken_1 0 rfl rfl)
abbrev cX5_breach : ByteArray := prog_26_method_69_code
def yX5_breach : MethodName := ⟨RX5, "breach", "(II)I"⟩
def dkwX5_breach_5 : List UInt8 := [21, 4, 167, 0, 4, 2, 172]
abbrev dktX5_breach_5 : List UInt8 := dkwX5_breach_5 ++ []
def dkwX5_breach_4 : List UInt8 := [54, 4, 132, 6, 1, 167, 255, 193, 28, 154, 0, 7, 29, 167, 0, 16, 21, 5, 16, 8, 160, 0, 8]
abbrev dktX5_breach_4 : List UInt8 := dkwX5_breach_4 ++ dktX5_breach_5
def dkwX5_breach_3 : List UInt8 := [162, 0, 8, 21, 7, 167, 0, 4, 29, 62, 21, 7, 21, 4, 164, 0, 8, 21, 7, 167, 0, 5, 21, 4]
abbrev dktX5_breach_3 : List UInt8 := dkwX5_breach_3 ++ dktX5_breach_4
def dkwX5_breach_2 : List UInt8 := [182, 1, 58, 54, 7, 21, 7, 156, 0, 6, 167, 0, 39, 132, 5, 1, 29, 155, 0, 9, 21, 7, 29]
abbrev dktX5_breach_2 : List UInt8 := dkwX5_breach_2 ++ dktX5_breach_3
def dkwX5_breach_1 : List UInt8 := [2, 62, 2, 54, 4, 3, 54, 5, 3, 54, 6, 21, 6, 16, 8, 162, 0, 62, 42, 27, 21, 6]
abbrev dktX5_breach_1 : List UInt8 := dkwX5_breach_1 ++ dktX5_breach_2
def dkwX5_breach_0 : List UInt8 := [42, 3, 181, 0, 1, 42, 27, 182, 0, 244, 153, 0, 12, 28, 3, 4, 184, 0, 187, 154, 0, 5, 2, 172]
abbrev dktX5_breach_0 : List UInt8 := dkwX5_breach_0 ++ dktX5_breach_1
theorem dksX5_breach_0 : cX5_breach.data.toList.drop 0 = dktX5_breach_0 := by decide +kernel
theorem dksX5_breach_1 : cX5_breach.data.toList.drop 24 = dktX5_breach_1 := dk_seg dksX5_breach_0 24 rfl rfl
theorem dksX5_breach_2 : cX5_breach.data.toList.drop 46 = dktX5_breach_2 := dk_seg dksX5_breach_1 22 rfl rfl
theorem dksX5_breach_3 : cX5_breach.data.toList.drop 69 = dktX5_breach_3 := dk_seg dksX5_breach_2 23 rfl rfl
theorem dksX5_breach_4 : cX5_breach.data.toList.drop 93 = dktX5_breach_4 := dk_seg dksX5_breach_3 24 rfl rfl
theorem dksX5_breach_5 : cX5_breach.data.toList.drop 116 = dktX5_breach_5 := dk_seg dksX5_breach_4 23 rfl rfl
theorem dX5_breach_0 : decode cX5_breach 0 = .ok (.aload_n 0, 1) := dk_42 (dk_at dksX5_breach_0 0 rfl rfl)
theorem dX5_breach_1 : decode cX5_breach 1 = .ok (.iconst 0, 1) := dk_3 (dk_at dksX5_breach_0 1 rfl rfl)
theorem dX5_breach_2 : decode cX5_breach 2 = .ok (.putfield 1, 3) := dk_181 0 1 (dk_at dksX5_breach_0 2 rfl rfl)
theorem dX5_breach_5 : decode cX5_breach 5 = .ok (.aload_n 0, 1) := dk_42 (dk_at dksX5_breach_0 5 rfl rfl)
theorem dX5_breach_6 : decode cX5_breach 6 = .ok (.iload_n 1, 1) := dk_27 (dk_at dksX5_breach_0 6 rfl rfl)
theorem dX5_breach_7 : decode cX5_breach 7 = .ok (.invokevirtual 244, 3) := dk_182 0 244 (dk_at dksX5_breach_0 7 rfl rfl)
theorem dX5_breach_10 : decode cX5_breach 10 = .ok (.ifCond .eq 12, 3) := dk_153 0 12 (dk_at dksX5_breach_0 10 rfl rfl)
theorem dX5_breach_13 : decode cX5_breach 13 = .ok (.iload_n 2, 1) := dk_28 (dk_at dksX5_breach_0 13 rfl rfl)
theorem dX5_breach_14 : decode cX5_breach 14 = .ok (.iconst 0, 1) := dk_3 (dk_at dksX5_breach_0 14 rfl rfl)
theorem dX5_breach_15 : decode cX5_breach 15 = .ok (.iconst 1, 1) := dk_4 (dk_at dksX5_breach_0 15 rfl rfl)
theorem dX5_breach_16 : decode cX5_breach 16 = .ok (.invokestatic 187, 3) := dk_184 0 187 (dk_at dksX5_breach_0 16 rfl rfl)
theorem dX5_breach_19 : decode cX5_breach 19 = .ok (.ifCond .ne 5, 3) := dk_154 0 5 (dk_at dksX5_breach_0 19 rfl rfl)
theorem dX5_breach_22 : decode cX5_breach 22 = .ok (.iconst (-1), 1) := dk_2 (dk_at dksX5_breach_0 22 rfl rfl)
theorem dX5_breach_23 : decode cX5_breach 23 = .ok (.ireturn, 1) := dk_172 (dk_at dksX5_breach_0 23 rfl rfl)
theorem dX5_breach_24 : decode cX5_breach 24 = .ok (.iconst (-1), 1) := dk_2 (dk_at dksX5_breach_1 0 rfl rfl)
theorem dX5_breach_25 : decode cX5_breach 25 = .ok (.istore_n 3, 1) := dk_62 (dk_at dksX5_breach_1 1 rfl rfl)
theorem dX5_breach_26 : decode cX5_breach 26 = .ok (.iconst (-1), 1) := dk_2 (dk_at dksX5_breach_1 2 rfl rfl)
theorem dX5_breach_27 : decode cX5_breach 27 = .ok (.istore 4, 2) := dk_54 4 (dk_at dksX5_breach_1 3 rfl rfl)
theorem dX5_breach_29 : decode cX5_breach 29 = .ok (.iconst 0, 1) := dk_3 (dk_at dksX5_breach_1 5 rfl rfl)
theorem dX5_breach_30 : decode cX5_breach 30 = .ok (.istore 5, 2) := dk_54 5 (dk_at dksX5_breach_1 6 rfl rfl)
theorem dX5_breach_32 : decode cX5_breach 32 = .ok (.iconst 0, 1) := dk_3 (dk_at dksX5_breach_1 8 rfl rfl)
theorem dX5_breach_33 : decode cX5_breach 33 = .ok (.istore 6, 2) := dk_54 6 (dk_at dksX5_breach_1 9 rfl rfl)
theorem dX5_breach_35 : decode cX5_breach 35 = .ok (.iload 6, 2) := dk_21 6 (dk_at dksX5_breach_1 11 rfl rfl)
theorem dX5_breach_37 : decode cX5_breach 37 = .ok (.bipush 8, 2) := dk_16 8 (dk_at dksX5_breach_1 13 rfl rfl)
theorem dX5_breach_39 : decode cX5_breach 39 = .ok (.if_icmp .ge 62, 3) := dk_162 0 62 (dk_at dksX5_breach_1 15 rfl rfl)
theorem dX5_breach_42 : decode cX5_breach 42 = .ok (.aload_n 0, 1) := dk_42 (dk_at dksX5_breach_1 18 rfl rfl)
theorem dX5_breach_43 : decode cX5_breach 43 = .ok (.iload_n 1, 1) := dk_27 (dk_at dksX5_breach_1 19 rfl rfl)
theorem dX5_breach_44 : decode cX5_breach 44 = .ok (.iload 6, 2) := dk_21 6 (dk_at dksX5_breach_1 20 rfl rfl)
theorem dX5_breach_46 : decode cX5_breach 46 = .ok (.invokevirtual 314, 3) := dk_182 1 58 (dk_at dksX5_breach_2 0 rfl rfl)
theorem dX5_breach_49 : decode cX5_breach 49 = .ok (.istore 7, 2) := dk_54 7 (dk_at dksX5_breach_2 3 rfl rfl)
theorem dX5_breach_51 : decode cX5_breach 51 = .ok (.iload 7, 2) := dk_21 7 (dk_at dksX5_breach_2 5 rfl rfl)
theorem dX5_breach_53 : decode cX5_breach 53 = .ok (.ifCond .ge 6, 3) := dk_156 0 6 (dk_at dksX5_breach_2 7 rfl rfl)
theorem dX5_breach_56 : decode cX5_breach 56 = .ok (.goto 39, 3) := dk_167 0 39 (dk_at dksX5_breach_2 10 rfl rfl)
theorem dX5_breach_59 : decode cX5_breach 59 = .ok (.iinc 5 1, 3) := dk_132 5 1 (dk_at dksX5_breach_2 13 rfl rfl)
theorem dX5_breach_62 : decode cX5_breach 62 = .ok (.iload_n 3, 1) := dk_29 (dk_at dksX5_breach_2 16 rfl rfl)
theorem dX5_breach_63 : decode cX5_breach 63 = .ok (.ifCond .lt 9, 3) := dk_155 0 9 (dk_at dksX5_breach_2 17 rfl rfl)
theorem dX5_breach_66 : decode cX5_breach 66 = .ok (.iload 7, 2) := dk_21 7 (dk_at dksX5_breach_2 20 rfl rfl)
theorem dX5_breach_68 : decode cX5_breach 68 = .ok (.iload_n 3, 1) := dk_29 (dk_at dksX5_breach_2 22 rfl rfl)
theorem dX5_breach_69 : decode cX5_breach 69 = .ok (.if_icmp .ge 8, 3) := dk_162 0 8 (dk_at dksX5_breach_3 0 rfl rfl)
theorem dX5_breach_72 : decode cX5_breach 72 = .ok (.iload 7, 2) := dk_21 7 (dk_at dksX5_breach_3 3 rfl rfl)
theorem dX5_breach_74 : decode cX5_breach 74 = .ok (.goto 4, 3) := dk_167 0 4 (dk_at dksX5_breach_3 5 rfl rfl)
theorem dX5_breach_77 : decode cX5_breach 77 = .ok (.iload_n 3, 1) := dk_29 (dk_at dksX5_breach_3 8 rfl rfl)
theorem dX5_breach_78 : decode cX5_breach 78 = .ok (.istore_n 3, 1) := dk_62 (dk_at dksX5_breach_3 9 rfl rfl)
theorem dX5_breach_79 : decode cX5_breach 79 = .ok (.iload 7, 2) := dk_21 7 (dk_at dksX5_breach_3 10 rfl rfl)
theorem dX5_breach_81 : decode cX5_breach 81 = .ok (.iload 4, 2) := dk_21 4 (dk_at dksX5_breach_3 12 rfl rfl)
theorem dX5_breach_83 : decode cX5_breach 83 = .ok (.if_icmp .le 8, 3) := dk_164 0 8 (dk_at dksX5_breach_3 14 rfl rfl)
theorem dX5_breach_86 : decode cX5_breach 86 = .ok (.iload 7, 2) := dk_21 7 (dk_at dksX5_breach_3 17 rfl rfl)
theorem dX5_breach_88 : decode cX5_breach 88 = .ok (.goto 5, 3) := dk_167 0 5 (dk_at dksX5_breach_3 19 rfl rfl)
theorem dX5_breach_91 : decode cX5_breach 91 = .ok (.iload 4, 2) := dk_21 4 (dk_at dksX5_breach_3 22 rfl rfl)
theorem dX5_breach_93 : decode cX5_breach 93 = .ok (.istore 4, 2) := dk_54 4 (dk_at dksX5_breach_4 0 rfl rfl)
theorem dX5_breach_95 : decode cX5_breach 95 = .ok (.iinc 6 1, 3) := dk_132 6 1 (dk_at dksX5_breach_4 2 rfl rfl)
theorem dX5_breach_98 : decode cX5_breach 98 = .ok (.goto (-63), 3) := dk_167 255 193 (dk_at dksX5_breach_4 5 rfl rfl)
theorem dX5_breach_101 : decode cX5_breach 101 = .ok (.iload_n 2, 1) := dk_28 (dk_at dksX5_breach_4 8 rfl rfl)
theorem dX5_breach_102 : decode cX5_breach 102 = .ok (.ifCond .ne 7, 3) := dk_154 0 7 (dk_at dksX5_breach_4 9 rfl rfl)
theorem dX5_breach_105 : decode cX5_breach 105 = .ok (.iload_n 3, 1) := dk_29 (dk_at dksX5_breach_4 12 rfl rfl)
theorem dX5_breach_106 : decode cX5_breach 106 = .ok (.goto 16, 3) := dk_167 0 16 (dk_at dksX5_breach_4 13 rfl rfl)
theorem dX5_breach_109 : decode cX5_breach 109 = .ok (.iload 5, 2) := dk_21 5 (dk_at dksX5_breach_4 16 rfl rfl)
theorem dX5_breach_111 : decode cX5_breach 111 = .ok (.bipush 8, 2) := dk_16 8 (dk_at dksX5_breach_4 18 rfl rfl)
theorem dX5_breach_113 : decode cX5_breach 113 = .ok (.if_icmp .ne 8, 3) := dk_160 0 8 (dk_at dksX5_breach_4 20 rfl rfl)
theorem dX5_breach_116 : decode cX5_breach 116 = .ok (.iload 4, 2) := dk_21 4 (dk_at dksX5_breach_5 0 rfl rfl)
theorem dX5_breach_118 : decode cX5_breach 118 = .ok (.goto 4, 3) := dk_167 0 4 (dk_at dksX5_breach_5 2 rfl rfl)
theorem dX5_breach_121 : decode cX5_breach 121 = .ok (.iconst (-1), 1) := dk_2 (dk_at dksX5_breach_5 5 rfl rfl)
theorem dX5_breach_122 : decode cX5_breach 122 = .ok (.ireturn, 1) := dk_172 (dk_at dksX5_breach_5 6 rfl rfl)
abbrev cX5_asks : ByteArray := prog_26_method_72_code
def yX5_asks : MethodName := ⟨RX5, "asks", "(II)I"⟩
def dkwX5_asks_1 : List UInt8 := [27, 28, 182, 1, 67, 167, 0, 4, 2, 172]
abbrev dktX5_asks_1 : List UInt8 := dkwX5_asks_1 ++ []
def dkwX5_asks_0 : List UInt8 := [42, 3, 181, 0, 1, 42, 27, 28, 182, 1, 61, 153, 0, 21, 42, 27, 28, 182, 1, 64, 153, 0, 12, 42]
abbrev dktX5_asks_0 : List UInt8 := dkwX5_asks_0 ++ dktX5_asks_1
theorem dksX5_asks_0 : cX5_asks.data.toList.drop 0 = dktX5_asks_0 := by decide +kernel
theorem dksX5_asks_1 : cX5_asks.data.toList.drop 24 = dktX5_asks_1 := dk_seg dksX5_asks_0 24 rfl rfl
theorem dX5_asks_0 : decode cX5_asks 0 = .ok (.aload_n 0, 1) := dk_42 (dk_at dksX5_asks_0 0 rfl rfl)
theorem dX5_asks_1 : decode cX5_asks 1 = .ok (.iconst 0, 1) := dk_3 (dk_at dksX5_asks_0 1 rfl rfl)
theorem dX5_asks_2 : decode cX5_asks 2 = .ok (.putfield 1, 3) := dk_181 0 1 (dk_at dksX5_asks_0 2 rfl rfl)
theorem dX5_asks_5 : decode cX5_asks 5 = .ok (.aload_n 0, 1) := dk_42 (dk_at dksX5_asks_0 5 rfl rfl)
theorem dX5_asks_6 : decode cX5_asks 6 = .ok (.iload_n 1, 1) := dk_27 (dk_at dksX5_asks_0 6 rfl rfl)
theorem dX5_asks_7 : decode cX5_asks 7 = .ok (.iload_n 2, 1) := dk_28 (dk_at dksX5_asks_0 7 rfl rfl)
theorem dX5_asks_8 : decode cX5_asks 8 = .ok (.invokevirtual 317, 3) := dk_182 1 61 (dk_at dksX5_asks_0 8 rfl rfl)
theorem dX5_asks_11 : decode cX5_asks 11 = .ok (.ifCond .eq 21, 3) := dk_153 0 21 (dk_at dksX5_asks_0 11 rfl rfl)
theorem dX5_asks_14 : decode cX5_asks 14 = .ok (.aload_n 0, 1) := dk_42 (dk_at dksX5_asks_0 14 rfl rfl)
theorem dX5_asks_15 : decode cX5_asks 15 = .ok (.iload_n 1, 1) := dk_27 (dk_at dksX5_asks_0 15 rfl rfl)
theorem dX5_asks_16 : decode cX5_asks 16 = .ok (.iload_n 2, 1) := dk_28 (dk_at dksX5_asks_0 16 rfl rfl)
theorem dX5_asks_17 : decode cX5_asks 17 = .ok (.invokevirtual 320, 3) := dk_182 1 64 (dk_at dksX5_asks_0 17 rfl rfl)
theorem dX5_asks_20 : decode cX5_asks 20 = .ok (.ifCond .eq 12, 3) := dk_153 0 12 (dk_at dksX5_asks_0 20 rfl rfl)
theorem dX5_asks_23 : decode cX5_asks 23 = .ok (.aload_n 0, 1) := dk_42 (dk_at dksX5_asks_0 23 rfl rfl)
theorem dX5_asks_24 : decode cX5_asks 24 = .ok (.iload_n 1, 1) := dk_27 (dk_at dksX5_asks_1 0 rfl rfl)
theorem dX5_asks_25 : decode cX5_asks 25 = .ok (.iload_n 2, 1) := dk_28 (dk_at dksX5_asks_1 1 rfl rfl)
theorem dX5_asks_26 : decode cX5_asks 26 = .ok (.invokevirtual 323, 3) := dk_182 1 67 (dk_at dksX5_asks_1 2 rfl rfl)
theorem dX5_asks_29 : decode cX5_asks 29 = .ok (.goto 4, 3) := dk_167 0 4 (dk_at dksX5_asks_1 5 rfl rfl)
theorem dX5_asks_32 : decode cX5_asks 32 = .ok (.iconst (-1), 1) := dk_2 (dk_at dksX5_asks_1 8 rfl rfl)
theorem dX5_asks_33 : decode cX5_asks 33 = .ok (.ireturn, 1) := dk_172 (dk_at dksX5_asks_1 9 rfl rfl)
abbrev cX5_isDue : ByteArray := prog_26_method_70_code
def yX5_isDue : MethodName := ⟨RX5, "isDue", "(II)Z"⟩
def dkwX5_isDue_2 : List UInt8 := [180, 0, 33, 16, 74, 27, 96, 46, 4, 160, 0, 7, 4, 167, 0, 4, 3, 172]
abbrev dktX5_isDue_2 : List UInt8 := dkwX5_isDue_2 ++ []
def dkwX5_isDue_1 : List UInt8 := [182, 1, 7, 154, 0, 36, 29, 42, 182, 1, 4, 159, 0, 24, 29, 42, 182, 1, 4, 162, 0, 20, 42]
abbrev dktX5_isDue_1 : List UInt8 := dkwX5_isDue_1 ++ dktX5_isDue_2
def dkwX5_isDue_0 : List UInt8 := [42, 27, 28, 182, 1, 49, 62, 42, 180, 0, 33, 17, 0, 132, 27, 96, 46, 4, 160, 0, 43, 42]
abbrev dktX5_isDue_0 : List UInt8 := dkwX5_isDue_0 ++ dktX5_isDue_1
theorem dksX5_isDue_0 : cX5_isDue.data.toList.drop 0 = dktX5_isDue_0 := by decide +kernel
theorem dksX5_isDue_1 : cX5_isDue.data.toList.drop 22 = dktX5_isDue_1 := dk_seg dksX5_isDue_0 22 rfl rfl
theorem dksX5_isDue_2 : cX5_isDue.data.toList.drop 45 = dktX5_isDue_2 := dk_seg dksX5_isDue_1 23 rfl rfl
theorem dX5_isDue_0 : decode cX5_isDue 0 = .ok (.aload_n 0, 1) := dk_42 (dk_at dksX5_isDue_0 0 rfl rfl)
theorem dX5_isDue_1 : decode cX5_isDue 1 = .ok (.iload_n 1, 1) := dk_27 (dk_at dksX5_isDue_0 1 rfl rfl)
theorem dX5_isDue_2 : decode cX5_isDue 2 = .ok (.iload_n 2, 1) := dk_28 (dk_at dksX5_isDue_0 2 rfl rfl)
theorem dX5_isDue_3 : decode cX5_isDue 3 = .ok (.invokevirtual 305, 3) := dk_182 1 49 (dk_at dksX5_isDue_0 3 rfl rfl)
theorem dX5_isDue_6 : decode cX5_isDue 6 = .ok (.istore_n 3, 1) := dk_62 (dk_at dksX5_isDue_0 6 rfl rfl)
theorem dX5_isDue_7 : decode cX5_isDue 7 = .ok (.aload_n 0, 1) := dk_42 (dk_at dksX5_isDue_0 7 rfl rfl)
theorem dX5_isDue_8 : decode cX5_isDue 8 = .ok (.getfield 33, 3) := dk_180 0 33 (dk_at dksX5_isDue_0 8 rfl rfl)
theorem dX5_isDue_11 : decode cX5_isDue 11 = .ok (.sipush 132, 3) := dk_17 0 132 (dk_at dksX5_isDue_0 11 rfl rfl)
theorem dX5_isDue_14 : decode cX5_isDue 14 = .ok (.iload_n 1, 1) := dk_27 (dk_at dksX5_isDue_0 14 rfl rfl)
theorem dX5_isDue_15 : decode cX5_isDue 15 = .ok (.iadd, 1) := dk_96 (dk_at dksX5_isDue_0 15 rfl rfl)
theorem dX5_isDue_16 : decode cX5_isDue 16 = .ok (.iaload, 1) := dk_46 (dk_at dksX5_isDue_0 16 rfl rfl)
theorem dX5_isDue_17 : decode cX5_isDue 17 = .ok (.iconst 1, 1) := dk_4 (dk_at dksX5_isDue_0 17 rfl rfl)
theorem dX5_isDue_18 : decode cX5_isDue 18 = .ok (.if_icmp .ne 43, 3) := dk_160 0 43 (dk_at dksX5_isDue_0 18 rfl rfl)
theorem dX5_isDue_21 : decode cX5_isDue 21 = .ok (.aload_n 0, 1) := dk_42 (dk_at dksX5_isDue_0 21 rfl rfl)
theorem dX5_isDue_22 : decode cX5_isDue 22 = .ok (.invokevirtual 263, 3) := dk_182 1 7 (dk_at dksX5_isDue_1 0 rfl rfl)
theorem dX5_isDue_25 : decode cX5_isDue 25 = .ok (.ifCond .ne 36, 3) := dk_154 0 36 (dk_at dksX5_isDue_1 3 rfl rfl)
theorem dX5_isDue_28 : decode cX5_isDue 28 = .ok (.iload_n 3, 1) := dk_29 (dk_at dksX5_isDue_1 6 rfl rfl)
theorem dX5_isDue_29 : decode cX5_isDue 29 = .ok (.aload_n 0, 1) := dk_42 (dk_at dksX5_isDue_1 7 rfl rfl)
theorem dX5_isDue_30 : decode cX5_isDue 30 = .ok (.invokevirtual 260, 3) := dk_182 1 4 (dk_at dksX5_isDue_1 8 rfl rfl)
theorem dX5_isDue_33 : decode cX5_isDue 33 = .ok (.if_icmp .eq 24, 3) := dk_159 0 24 (dk_at dksX5_isDue_1 11 rfl rfl)
theorem dX5_isDue_36 : decode cX5_isDue 36 = .ok (.iload_n 3, 1) := dk_29 (dk_at dksX5_isDue_1 14 rfl rfl)
theorem dX5_isDue_37 : decode cX5_isDue 37 = .ok (.aload_n 0, 1) := dk_42 (dk_at dksX5_isDue_1 15 rfl rfl)
theorem dX5_isDue_38 : decode cX5_isDue 38 = .ok (.invokevirtual 260, 3) := dk_182 1 4 (dk_at dksX5_isDue_1 16 rfl rfl)
theorem dX5_isDue_41 : decode cX5_isDue 41 = .ok (.if_icmp .ge 20, 3) := dk_162 0 20 (dk_at dksX5_isDue_1 19 rfl rfl)
theorem dX5_isDue_44 : decode cX5_isDue 44 = .ok (.aload_n 0, 1) := dk_42 (dk_at dksX5_isDue_1 22 rfl rfl)
theorem dX5_isDue_45 : decode cX5_isDue 45 = .ok (.getfield 33, 3) := dk_180 0 33 (dk_at dksX5_isDue_2 0 rfl rfl)
theorem dX5_isDue_48 : decode cX5_isDue 48 = .ok (.bipush 74, 2) := dk_16 74 (dk_at dksX5_isDue_2 3 rfl rfl)
theorem dX5_isDue_50 : decode cX5_isDue 50 = .ok (.iload_n 1, 1) := dk_27 (dk_at dksX5_isDue_2 5 rfl rfl)
theorem dX5_isDue_51 : decode cX5_isDue 51 = .ok (.iadd, 1) := dk_96 (dk_at dksX5_isDue_2 6 rfl rfl)
theorem dX5_isDue_52 : decode cX5_isDue 52 = .ok (.iaload, 1) := dk_46 (dk_at dksX5_isDue_2 7 rfl rfl)
theorem dX5_isDue_53 : decode cX5_isDue 53 = .ok (.iconst 1, 1) := dk_4 (dk_at dksX5_isDue_2 8 rfl rfl)
theorem dX5_isDue_54 : decode cX5_isDue 54 = .ok (.if_icmp .ne 7, 3) := dk_160 0 7 (dk_at dksX5_isDue_2 9 rfl rfl)
theorem dX5_isDue_57 : decode cX5_isDue 57 = .ok (.iconst 1, 1) := dk_4 (dk_at dksX5_isDue_2 12 rfl rfl)
theorem dX5_isDue_58 : decode cX5_isDue 58 = .ok (.goto 4, 3) := dk_167 0 4 (dk_at dksX5_isDue_2 13 rfl rfl)
theorem dX5_isDue_61 : decode cX5_isDue 61 = .ok (.iconst 0, 1) := dk_3 (dk_at dksX5_isDue_2 16 rfl rfl)
theorem dX5_isDue_62 : decode cX5_isDue 62 = .ok (.ireturn, 1) := dk_172 (dk_at dksX5_isDue_2 17 rfl rfl)
abbrev cX5_leftOf : ByteArray := prog_26_method_71_code
def yX5_leftOf : MethodName := ⟨RX5, "leftOf", "(II)I"⟩
def dkwX5_leftOf_1 : List UInt8 := [156, 0, 7, 3, 167, 0, 4, 29, 172]
abbrev dktX5_leftOf_1 : List UInt8 := dkwX5_leftOf_1 ++ []
def dkwX5_leftOf_0 : List UInt8 := [42, 180, 0, 33, 16, 66, 27, 96, 46, 42, 27, 28, 42, 182, 1, 4, 182, 1, 45, 100, 62, 29]
abbrev dktX5_leftOf_0 : List UInt8 := dkwX5_leftOf_0 ++ dktX5_leftOf_1
theorem dksX5_leftOf_0 : cX5_leftOf.data.toList.drop 0 = dktX5_leftOf_0 := by decide +kernel
theorem dksX5_leftOf_1 : cX5_leftOf.data.toList.drop 22 = dktX5_leftOf_1 := dk_seg dksX5_leftOf_0 22 rfl rfl
theorem dX5_leftOf_0 : decode cX5_leftOf 0 = .ok (.aload_n 0, 1) := dk_42 (dk_at dksX5_leftOf_0 0 rfl rfl)
theorem dX5_leftOf_1 : decode cX5_leftOf 1 = .ok (.getfield 33, 3) := dk_180 0 33 (dk_at dksX5_leftOf_0 1 rfl rfl)
theorem dX5_leftOf_4 : decode cX5_leftOf 4 = .ok (.bipush 66, 2) := dk_16 66 (dk_at dksX5_leftOf_0 4 rfl rfl)
theorem dX5_leftOf_6 : decode cX5_leftOf 6 = .ok (.iload_n 1, 1) := dk_27 (dk_at dksX5_leftOf_0 6 rfl rfl)
theorem dX5_leftOf_7 : decode cX5_leftOf 7 = .ok (.iadd, 1) := dk_96 (dk_at dksX5_leftOf_0 7 rfl rfl)
theorem dX5_leftOf_8 : decode cX5_leftOf 8 = .ok (.iaload, 1) := dk_46 (dk_at dksX5_leftOf_0 8 rfl rfl)
theorem dX5_leftOf_9 : decode cX5_leftOf 9 = .ok (.aload_n 0, 1) := dk_42 (dk_at dksX5_leftOf_0 9 rfl rfl)
theorem dX5_leftOf_10 : decode cX5_leftOf 10 = .ok (.iload_n 1, 1) := dk_27 (dk_at dksX5_leftOf_0 10 rfl rfl)
theorem dX5_leftOf_11 : decode cX5_leftOf 11 = .ok (.iload_n 2, 1) := dk_28 (dk_at dksX5_leftOf_0 11 rfl rfl)
theorem dX5_leftOf_12 : decode cX5_leftOf 12 = .ok (.aload_n 0, 1) := dk_42 (dk_at dksX5_leftOf_0 12 rfl rfl)
theorem dX5_leftOf_13 : decode cX5_leftOf 13 = .ok (.invokevirtual 260, 3) := dk_182 1 4 (dk_at dksX5_leftOf_0 13 rfl rfl)
theorem dX5_leftOf_16 : decode cX5_leftOf 16 = .ok (.invokevirtual 301, 3) := dk_182 1 45 (dk_at dksX5_leftOf_0 16 rfl rfl)
theorem dX5_leftOf_19 : decode cX5_leftOf 19 = .ok (.isub, 1) := dk_100 (dk_at dksX5_leftOf_0 19 rfl rfl)
theorem dX5_leftOf_20 : decode cX5_leftOf 20 = .ok (.istore_n 3, 1) := dk_62 (dk_at dksX5_leftOf_0 20 rfl rfl)
theorem dX5_leftOf_21 : decode cX5_leftOf 21 = .ok (.iload_n 3, 1) := dk_29 (dk_at dksX5_leftOf_0 21 rfl rfl)
theorem dX5_leftOf_22 : decode cX5_leftOf 22 = .ok (.ifCond .ge 7, 3) := dk_156 0 7 (dk_at dksX5_leftOf_1 0 rfl rfl)
theorem dX5_leftOf_25 : decode cX5_leftOf 25 = .ok (.iconst 0, 1) := dk_3 (dk_at dksX5_leftOf_1 3 rfl rfl)
theorem dX5_leftOf_26 : decode cX5_leftOf 26 = .ok (.goto 4, 3) := dk_167 0 4 (dk_at dksX5_leftOf_1 4 rfl rfl)
theorem dX5_leftOf_29 : decode cX5_leftOf 29 = .ok (.iload_n 3, 1) := dk_29 (dk_at dksX5_leftOf_1 7 rfl rfl)
theorem dX5_leftOf_30 : decode cX5_leftOf 30 = .ok (.ireturn, 1) := dk_172 (dk_at dksX5_leftOf_1 8 rfl rfl)
abbrev cX5_agree : ByteArray := prog_26_method_73_code
def yX5_agree : MethodName := ⟨RX5, "agree", "()I"⟩
def dkwX5_agree_3 : List UInt8 := [28, 120, 167, 0, 4, 3, 128, 60, 132, 2, 1, 167, 255, 183, 27, 172]
abbrev dktX5_agree_3 : List UInt8 := dkwX5_agree_3 ++ []
def dkwX5_agree_2 : List UInt8 := [182, 1, 1, 160, 0, 7, 4, 167, 0, 4, 3, 62, 132, 4, 1, 167, 255, 214, 27, 29, 153, 0, 9, 4]
abbrev dktX5_agree_2 : List UInt8 := dkwX5_agree_2 ++ dktX5_agree_3
def dkwX5_agree_1 : List UInt8 := [180, 0, 33, 16, 6, 46, 162, 0, 36, 29, 153, 0, 24, 42, 21, 4, 28, 182, 1, 1, 42, 21, 4, 3]
abbrev dktX5_agree_1 : List UInt8 := dkwX5_agree_1 ++ dktX5_agree_2
def dkwX5_agree_0 : List UInt8 := [42, 3, 181, 0, 1, 3, 60, 3, 61, 28, 16, 8, 162, 0, 73, 4, 62, 3, 54, 4, 21, 4, 42]
abbrev dktX5_agree_0 : List UInt8 := dkwX5_agree_0 ++ dktX5_agree_1
theorem dksX5_agree_0 : cX5_agree.data.toList.drop 0 = dktX5_agree_0 := by decide +kernel
theorem dksX5_agree_1 : cX5_agree.data.toList.drop 23 = dktX5_agree_1 := dk_seg dksX5_agree_0 23 rfl rfl
theorem dksX5_agree_2 : cX5_agree.data.toList.drop 47 = dktX5_agree_2 := dk_seg dksX5_agree_1 24 rfl rfl
theorem dksX5_agree_3 : cX5_agree.data.toList.drop 71 = dktX5_agree_3 := dk_seg dksX5_agree_2 24 rfl rfl
theorem dX5_agree_0 : decode cX5_agree 0 = .ok (.aload_n 0, 1) := dk_42 (dk_at dksX5_agree_0 0 rfl rfl)
theorem dX5_agree_1 : decode cX5_agree 1 = .ok (.iconst 0, 1) := dk_3 (dk_at dksX5_agree_0 1 rfl rfl)
theorem dX5_agree_2 : decode cX5_agree 2 = .ok (.putfield 1, 3) := dk_181 0 1 (dk_at dksX5_agree_0 2 rfl rfl)
theorem dX5_agree_5 : decode cX5_agree 5 = .ok (.iconst 0, 1) := dk_3 (dk_at dksX5_agree_0 5 rfl rfl)
theorem dX5_agree_6 : decode cX5_agree 6 = .ok (.istore_n 1, 1) := dk_60 (dk_at dksX5_agree_0 6 rfl rfl)
theorem dX5_agree_7 : decode cX5_agree 7 = .ok (.iconst 0, 1) := dk_3 (dk_at dksX5_agree_0 7 rfl rfl)
theorem dX5_agree_8 : decode cX5_agree 8 = .ok (.istore_n 2, 1) := dk_61 (dk_at dksX5_agree_0 8 rfl rfl)
theorem dX5_agree_9 : decode cX5_agree 9 = .ok (.iload_n 2, 1) := dk_28 (dk_at dksX5_agree_0 9 rfl rfl)
theorem dX5_agree_10 : decode cX5_agree 10 = .ok (.bipush 8, 2) := dk_16 8 (dk_at dksX5_agree_0 10 rfl rfl)
theorem dX5_agree_12 : decode cX5_agree 12 = .ok (.if_icmp .ge 73, 3) := dk_162 0 73 (dk_at dksX5_agree_0 12 rfl rfl)
theorem dX5_agree_15 : decode cX5_agree 15 = .ok (.iconst 1, 1) := dk_4 (dk_at dksX5_agree_0 15 rfl rfl)
theorem dX5_agree_16 : decode cX5_agree 16 = .ok (.istore_n 3, 1) := dk_62 (dk_at dksX5_agree_0 16 rfl rfl)
theorem dX5_agree_17 : decode cX5_agree 17 = .ok (.iconst 0, 1) := dk_3 (dk_at dksX5_agree_0 17 rfl rfl)
theorem dX5_agree_18 : decode cX5_agree 18 = .ok (.istore 4, 2) := dk_54 4 (dk_at dksX5_agree_0 18 rfl rfl)
theorem dX5_agree_20 : decode cX5_agree 20 = .ok (.iload 4, 2) := dk_21 4 (dk_at dksX5_agree_0 20 rfl rfl)
theorem dX5_agree_22 : decode cX5_agree 22 = .ok (.aload_n 0, 1) := dk_42 (dk_at dksX5_agree_0 22 rfl rfl)
theorem dX5_agree_23 : decode cX5_agree 23 = .ok (.getfield 33, 3) := dk_180 0 33 (dk_at dksX5_agree_1 0 rfl rfl)
theorem dX5_agree_26 : decode cX5_agree 26 = .ok (.bipush 6, 2) := dk_16 6 (dk_at dksX5_agree_1 3 rfl rfl)
theorem dX5_agree_28 : decode cX5_agree 28 = .ok (.iaload, 1) := dk_46 (dk_at dksX5_agree_1 5 rfl rfl)
theorem dX5_agree_29 : decode cX5_agree 29 = .ok (.if_icmp .ge 36, 3) := dk_162 0 36 (dk_at dksX5_agree_1 6 rfl rfl)
theorem dX5_agree_32 : decode cX5_agree 32 = .ok (.iload_n 3, 1) := dk_29 (dk_at dksX5_agree_1 9 rfl rfl)
theorem dX5_agree_33 : decode cX5_agree 33 = .ok (.ifCond .eq 24, 3) := dk_153 0 24 (dk_at dksX5_agree_1 10 rfl rfl)
theorem dX5_agree_36 : decode cX5_agree 36 = .ok (.aload_n 0, 1) := dk_42 (dk_at dksX5_agree_1 13 rfl rfl)
theorem dX5_agree_37 : decode cX5_agree 37 = .ok (.iload 4, 2) := dk_21 4 (dk_at dksX5_agree_1 14 rfl rfl)
theorem dX5_agree_39 : decode cX5_agree 39 = .ok (.iload_n 2, 1) := dk_28 (dk_at dksX5_agree_1 16 rfl rfl)
theorem dX5_agree_40 : decode cX5_agree 40 = .ok (.invokevirtual 257, 3) := dk_182 1 1 (dk_at dksX5_agree_1 17 rfl rfl)
theorem dX5_agree_43 : decode cX5_agree 43 = .ok (.aload_n 0, 1) := dk_42 (dk_at dksX5_agree_1 20 rfl rfl)
theorem dX5_agree_44 : decode cX5_agree 44 = .ok (.iload 4, 2) := dk_21 4 (dk_at dksX5_agree_1 21 rfl rfl)
theorem dX5_agree_46 : decode cX5_agree 46 = .ok (.iconst 0, 1) := dk_3 (dk_at dksX5_agree_1 23 rfl rfl)
theorem dX5_agree_47 : decode cX5_agree 47 = .ok (.invokevirtual 257, 3) := dk_182 1 1 (dk_at dksX5_agree_2 0 rfl rfl)
theorem dX5_agree_50 : decode cX5_agree 50 = .ok (.if_icmp .ne 7, 3) := dk_160 0 7 (dk_at dksX5_agree_2 3 rfl rfl)
theorem dX5_agree_53 : decode cX5_agree 53 = .ok (.iconst 1, 1) := dk_4 (dk_at dksX5_agree_2 6 rfl rfl)
theorem dX5_agree_54 : decode cX5_agree 54 = .ok (.goto 4, 3) := dk_167 0 4 (dk_at dksX5_agree_2 7 rfl rfl)
theorem dX5_agree_57 : decode cX5_agree 57 = .ok (.iconst 0, 1) := dk_3 (dk_at dksX5_agree_2 10 rfl rfl)
theorem dX5_agree_58 : decode cX5_agree 58 = .ok (.istore_n 3, 1) := dk_62 (dk_at dksX5_agree_2 11 rfl rfl)
theorem dX5_agree_59 : decode cX5_agree 59 = .ok (.iinc 4 1, 3) := dk_132 4 1 (dk_at dksX5_agree_2 12 rfl rfl)
theorem dX5_agree_62 : decode cX5_agree 62 = .ok (.goto (-42), 3) := dk_167 255 214 (dk_at dksX5_agree_2 15 rfl rfl)
theorem dX5_agree_65 : decode cX5_agree 65 = .ok (.iload_n 1, 1) := dk_27 (dk_at dksX5_agree_2 18 rfl rfl)
theorem dX5_agree_66 : decode cX5_agree 66 = .ok (.iload_n 3, 1) := dk_29 (dk_at dksX5_agree_2 19 rfl rfl)
theorem dX5_agree_67 : decode cX5_agree 67 = .ok (.ifCond .eq 9, 3) := dk_153 0 9 (dk_at dksX5_agree_2 20 rfl rfl)
theorem dX5_agree_70 : decode cX5_agree 70 = .ok (.iconst 1, 1) := dk_4 (dk_at dksX5_agree_2 23 rfl rfl)
theorem dX5_agree_71 : decode cX5_agree 71 = .ok (.iload_n 2, 1) := dk_28 (dk_at dksX5_agree_3 0 rfl rfl)
theorem dX5_agree_72 : decode cX5_agree 72 = .ok (.ishl, 1) := dk_120 (dk_at dksX5_agree_3 1 rfl rfl)
theorem dX5_agree_73 : decode cX5_agree 73 = .ok (.goto 4, 3) := dk_167 0 4 (dk_at dksX5_agree_3 2 rfl rfl)
theorem dX5_agree_76 : decode cX5_agree 76 = .ok (.iconst 0, 1) := dk_3 (dk_at dksX5_agree_3 5 rfl rfl)
theorem dX5_agree_77 : decode cX5_agree 77 = .ok (.ior, 1) := dk_128 (dk_at dksX5_agree_3 6 rfl rfl)
theorem dX5_agree_78 : decode cX5_agree 78 = .ok (.istore_n 1, 1) := dk_60 (dk_at dksX5_agree_3 7 rfl rfl)
theorem dX5_agree_79 : decode cX5_agree 79 = .ok (.iinc 2 1, 3) := dk_132 2 1 (dk_at dksX5_agree_3 8 rfl rfl)
theorem dX5_agree_82 : decode cX5_agree 82 = .ok (.goto (-73), 3) := dk_167 255 183 (dk_at dksX5_agree_3 11 rfl rfl)
theorem dX5_agree_85 : decode cX5_agree 85 = .ok (.iload_n 1, 1) := dk_27 (dk_at dksX5_agree_3 14 rfl rfl)
theorem dX5_agree_86 : decode cX5_agree 86 = .ok (.ireturn, 1) := dk_172 (dk_at dksX5_agree_3 15 rfl rfl)
abbrev cX5_plan : ByteArray := prog_26_method_82_code
def yX5_plan : MethodName := ⟨RX5, "plan", "(I)I"⟩
def dkwX5_plan_11 : List UInt8 := [100, 62, 132, 5, 1, 167, 255, 113, 28, 172]
abbrev dktX5_plan_11 : List UInt8 := dkwX5_plan_11 ++ []
def dkwX5_plan_10 : List UInt8 := [29, 21, 8, 17, 0, 200, 100, 182, 1, 79, 54, 4, 167, 0, 14, 21, 8, 158, 0, 9, 21, 8, 16, 100]
abbrev dktX5_plan_10 : List UInt8 := dkwX5_plan_10 ++ dktX5_plan_11
def dkwX5_plan_9 : List UInt8 := [54, 8, 42, 180, 0, 66, 21, 5, 21, 8, 79, 21, 8, 17, 0, 200, 161, 0, 23, 42, 21, 4, 21, 5]
abbrev dktX5_plan_9 : List UInt8 := dkwX5_plan_9 ++ dktX5_plan_10
def dkwX5_plan_8 : List UInt8 := [21, 5, 29, 21, 4, 182, 1, 76, 46, 159, 0, 9, 132, 7, 1, 167, 255, 216, 42, 21, 7, 182, 1, 83]
abbrev dktX5_plan_8 : List UInt8 := dkwX5_plan_8 ++ dktX5_plan_9
def dkwX5_plan_7 : List UInt8 := [154, 0, 41, 42, 21, 5, 29, 21, 4, 42, 21, 7, 182, 1, 83, 182, 1, 86, 42, 180, 0, 60, 42]
abbrev dktX5_plan_7 : List UInt8 := dkwX5_plan_7 ++ dktX5_plan_8
def dkwX5_plan_6 : List UInt8 := [180, 0, 33, 16, 111, 27, 96, 46, 4, 160, 0, 7, 4, 167, 0, 4, 3, 54, 6, 3, 54, 7, 21, 6]
abbrev dktX5_plan_6 : List UInt8 := dkwX5_plan_6 ++ dktX5_plan_7
def dkwX5_plan_5 : List UInt8 := [180, 1, 101, 54, 5, 21, 5, 42, 180, 1, 104, 162, 0, 140, 21, 5, 42, 180, 1, 101, 160, 0, 20, 42]
abbrev dktX5_plan_5 : List UInt8 := dkwX5_plan_5 ++ dktX5_plan_6
def dkwX5_plan_4 : List UInt8 := [16, 106, 46, 42, 180, 0, 33, 3, 46, 112, 181, 1, 101, 42, 42, 180, 0, 33, 3, 46, 181, 1, 104, 42]
abbrev dktX5_plan_4 : List UInt8 := dkwX5_plan_4 ++ dktX5_plan_5
def dkwX5_plan_3 : List UInt8 := [3, 182, 1, 67, 5, 21, 5, 104, 120, 128, 54, 4, 132, 5, 1, 167, 255, 222, 42, 42, 180, 0, 33]
abbrev dktX5_plan_3 : List UInt8 := dkwX5_plan_3 ++ dktX5_plan_4
def dkwX5_plan_2 : List UInt8 := [54, 4, 3, 54, 5, 21, 5, 42, 180, 1, 70, 162, 0, 31, 21, 4, 42, 42, 180, 0, 63, 21, 5, 46]
abbrev dktX5_plan_2 : List UInt8 := dkwX5_plan_2 ++ dktX5_plan_3
def dkwX5_plan_1 : List UInt8 := [182, 1, 98, 61, 28, 17, 3, 232, 161, 0, 5, 2, 172, 42, 180, 0, 33, 16, 107, 27, 96, 46, 62, 3]
abbrev dktX5_plan_1 : List UInt8 := dkwX5_plan_1 ++ dktX5_plan_2
def dkwX5_plan_0 : List UInt8 := [42, 3, 181, 0, 1, 42, 27, 182, 1, 95, 154, 0, 5, 2, 172, 42, 27, 42, 27, 182, 1, 89]
abbrev dktX5_plan_0 : List UInt8 := dkwX5_plan_0 ++ dktX5_plan_1
theorem dksX5_plan_0 : cX5_plan.data.toList.drop 0 = dktX5_plan_0 := by decide +kernel
theorem dksX5_plan_1 : cX5_plan.data.toList.drop 22 = dktX5_plan_1 := dk_seg dksX5_plan_0 22 rfl rfl
theorem dksX5_plan_2 : cX5_plan.data.toList.drop 46 = dktX5_plan_2 := dk_seg dksX5_plan_1 24 rfl rfl
theorem dksX5_plan_3 : cX5_plan.data.toList.drop 70 = dktX5_plan_3 := dk_seg dksX5_plan_2 24 rfl rfl
theorem dksX5_plan_4 : cX5_plan.data.toList.drop 93 = dktX5_plan_4 := dk_seg dksX5_plan_3 23 rfl rfl
theorem dksX5_plan_5 : cX5_plan.data.toList.drop 117 = dktX5_plan_5 := dk_seg dksX5_plan_4 24 rfl rfl
theorem dksX5_plan_6 : cX5_plan.data.toList.drop 141 = dktX5_plan_6 := dk_seg dksX5_plan_5 24 rfl rfl
theorem dksX5_plan_7 : cX5_plan.data.toList.drop 165 = dktX5_plan_7 := dk_seg dksX5_plan_6 24 rfl rfl
theorem dksX5_plan_8 : cX5_plan.data.toList.drop 188 = dktX5_plan_8 := dk_seg dksX5_plan_7 23 rfl rfl
theorem dksX5_plan_9 : cX5_plan.data.toList.drop 212 = dktX5_plan_9 := dk_seg dksX5_plan_8 24 rfl rfl
theorem dksX5_plan_10 : cX5_plan.data.toList.drop 236 = dktX5_plan_10 := dk_seg dksX5_plan_9 24 rfl rfl
theorem dksX5_plan_11 : cX5_plan.data.toList.drop 260 = dktX5_plan_11 := dk_seg dksX5_plan_10 24 rfl rfl
theorem dX5_plan_0 : decode cX5_plan 0 = .ok (.aload_n 0, 1) := dk_42 (dk_at dksX5_plan_0 0 rfl rfl)
theorem dX5_plan_1 : decode cX5_plan 1 = .ok (.iconst 0, 1) := dk_3 (dk_at dksX5_plan_0 1 rfl rfl)
theorem dX5_plan_2 : decode cX5_plan 2 = .ok (.putfield 1, 3) := dk_181 0 1 (dk_at dksX5_plan_0 2 rfl rfl)
theorem dX5_plan_5 : decode cX5_plan 5 = .ok (.aload_n 0, 1) := dk_42 (dk_at dksX5_plan_0 5 rfl rfl)
theorem dX5_plan_6 : decode cX5_plan 6 = .ok (.iload_n 1, 1) := dk_27 (dk_at dksX5_plan_0 6 rfl rfl)
theorem dX5_plan_7 : decode cX5_plan 7 = .ok (.invokevirtual 351, 3) := dk_182 1 95 (dk_at dksX5_plan_0 7 rfl rfl)
theorem dX5_plan_10 : decode cX5_plan 10 = .ok (.ifCond .ne 5, 3) := dk_154 0 5 (dk_at dksX5_plan_0 10 rfl rfl)
theorem dX5_plan_13 : decode cX5_plan 13 = .ok (.iconst (-1), 1) := dk_2 (dk_at dksX5_plan_0 13 rfl rfl)
theorem dX5_plan_14 : decode cX5_plan 14 = .ok (.ireturn, 1) := dk_172 (dk_at dksX5_plan_0 14 rfl rfl)
theorem dX5_plan_15 : decode cX5_plan 15 = .ok (.aload_n 0, 1) := dk_42 (dk_at dksX5_plan_0 15 rfl rfl)
theorem dX5_plan_16 : decode cX5_plan 16 = .ok (.iload_n 1, 1) := dk_27 (dk_at dksX5_plan_0 16 rfl rfl)
theorem dX5_plan_17 : decode cX5_plan 17 = .ok (.aload_n 0, 1) := dk_42 (dk_at dksX5_plan_0 17 rfl rfl)
theorem dX5_plan_18 : decode cX5_plan 18 = .ok (.iload_n 1, 1) := dk_27 (dk_at dksX5_plan_0 18 rfl rfl)
theorem dX5_plan_19 : decode cX5_plan 19 = .ok (.invokevirtual 345, 3) := dk_182 1 89 (dk_at dksX5_plan_0 19 rfl rfl)
theorem dX5_plan_22 : decode cX5_plan 22 = .ok (.invokevirtual 354, 3) := dk_182 1 98 (dk_at dksX5_plan_1 0 rfl rfl)
theorem dX5_plan_25 : decode cX5_plan 25 = .ok (.istore_n 2, 1) := dk_61 (dk_at dksX5_plan_1 3 rfl rfl)
theorem dX5_plan_26 : decode cX5_plan 26 = .ok (.iload_n 2, 1) := dk_28 (dk_at dksX5_plan_1 4 rfl rfl)
theorem dX5_plan_27 : decode cX5_plan 27 = .ok (.sipush 1000, 3) := dk_17 3 232 (dk_at dksX5_plan_1 5 rfl rfl)
theorem dX5_plan_30 : decode cX5_plan 30 = .ok (.if_icmp .lt 5, 3) := dk_161 0 5 (dk_at dksX5_plan_1 8 rfl rfl)
theorem dX5_plan_33 : decode cX5_plan 33 = .ok (.iconst (-1), 1) := dk_2 (dk_at dksX5_plan_1 11 rfl rfl)
theorem dX5_plan_34 : decode cX5_plan 34 = .ok (.ireturn, 1) := dk_172 (dk_at dksX5_plan_1 12 rfl rfl)
theorem dX5_plan_35 : decode cX5_plan 35 = .ok (.aload_n 0, 1) := dk_42 (dk_at dksX5_plan_1 13 rfl rfl)
theorem dX5_plan_36 : decode cX5_plan 36 = .ok (.getfield 33, 3) := dk_180 0 33 (dk_at dksX5_plan_1 14 rfl rfl)
theorem dX5_plan_39 : decode cX5_plan 39 = .ok (.bipush 107, 2) := dk_16 107 (dk_at dksX5_plan_1 17 rfl rfl)
theorem dX5_plan_41 : decode cX5_plan 41 = .ok (.iload_n 1, 1) := dk_27 (dk_at dksX5_plan_1 19 rfl rfl)
theorem dX5_plan_42 : decode cX5_plan 42 = .ok (.iadd, 1) := dk_96 (dk_at dksX5_plan_1 20 rfl rfl)
theorem dX5_plan_43 : decode cX5_plan 43 = .ok (.iaload, 1) := dk_46 (dk_at dksX5_plan_1 21 rfl rfl)
theorem dX5_plan_44 : decode cX5_plan 44 = .ok (.istore_n 3, 1) := dk_62 (dk_at dksX5_plan_1 22 rfl rfl)
theorem dX5_plan_45 : decode cX5_plan 45 = .ok (.iconst 0, 1) := dk_3 (dk_at dksX5_plan_1 23 rfl rfl)
theorem dX5_plan_46 : decode cX5_plan 46 = .ok (.istore 4, 2) := dk_54 4 (dk_at dksX5_plan_2 0 rfl rfl)
theorem dX5_plan_48 : decode cX5_plan 48 = .ok (.iconst 0, 1) := dk_3 (dk_at dksX5_plan_2 2 rfl rfl)
theorem dX5_plan_49 : decode cX5_plan 49 = .ok (.istore 5, 2) := dk_54 5 (dk_at dksX5_plan_2 3 rfl rfl)
theorem dX5_plan_51 : decode cX5_plan 51 = .ok (.iload 5, 2) := dk_21 5 (dk_at dksX5_plan_2 5 rfl rfl)
theorem dX5_plan_53 : decode cX5_plan 53 = .ok (.aload_n 0, 1) := dk_42 (dk_at dksX5_plan_2 7 rfl rfl)
theorem dX5_plan_54 : decode cX5_plan 54 = .ok (.getfield 326, 3) := dk_180 1 70 (dk_at dksX5_plan_2 8 rfl rfl)
theorem dX5_plan_57 : decode cX5_plan 57 = .ok (.if_icmp .ge 31, 3) := dk_162 0 31 (dk_at dksX5_plan_2 11 rfl rfl)
theorem dX5_plan_60 : decode cX5_plan 60 = .ok (.iload 4, 2) := dk_21 4 (dk_at dksX5_plan_2 14 rfl rfl)
theorem dX5_plan_62 : decode cX5_plan 62 = .ok (.aload_n 0, 1) := dk_42 (dk_at dksX5_plan_2 16 rfl rfl)
theorem dX5_plan_63 : decode cX5_plan 63 = .ok (.aload_n 0, 1) := dk_42 (dk_at dksX5_plan_2 17 rfl rfl)
theorem dX5_plan_64 : decode cX5_plan 64 = .ok (.getfield 63, 3) := dk_180 0 63 (dk_at dksX5_plan_2 18 rfl rfl)
theorem dX5_plan_67 : decode cX5_plan 67 = .ok (.iload 5, 2) := dk_21 5 (dk_at dksX5_plan_2 21 rfl rfl)
theorem dX5_plan_69 : decode cX5_plan 69 = .ok (.iaload, 1) := dk_46 (dk_at dksX5_plan_2 23 rfl rfl)
theorem dX5_plan_70 : decode cX5_plan 70 = .ok (.iconst 0, 1) := dk_3 (dk_at dksX5_plan_3 0 rfl rfl)
theorem dX5_plan_71 : decode cX5_plan 71 = .ok (.invokevirtual 323, 3) := dk_182 1 67 (dk_at dksX5_plan_3 1 rfl rfl)
theorem dX5_plan_74 : decode cX5_plan 74 = .ok (.iconst 2, 1) := dk_5 (dk_at dksX5_plan_3 4 rfl rfl)
theorem dX5_plan_75 : decode cX5_plan 75 = .ok (.iload 5, 2) := dk_21 5 (dk_at dksX5_plan_3 5 rfl rfl)
theorem dX5_plan_77 : decode cX5_plan 77 = .ok (.imul, 1) := dk_104 (dk_at dksX5_plan_3 7 rfl rfl)
theorem dX5_plan_78 : decode cX5_plan 78 = .ok (.ishl, 1) := dk_120 (dk_at dksX5_plan_3 8 rfl rfl)
theorem dX5_plan_79 : decode cX5_plan 79 = .ok (.ior, 1) := dk_128 (dk_at dksX5_plan_3 9 rfl rfl)
theorem dX5_plan_80 : decode cX5_plan 80 = .ok (.istore 4, 2) := dk_54 4 (dk_at dksX5_plan_3 10 rfl rfl)
theorem dX5_plan_82 : decode cX5_plan 82 = .ok (.iinc 5 1, 3) := dk_132 5 1 (dk_at dksX5_plan_3 12 rfl rfl)
theorem dX5_plan_85 : decode cX5_plan 85 = .ok (.goto (-34), 3) := dk_167 255 222 (dk_at dksX5_plan_3 15 rfl rfl)
theorem dX5_plan_88 : decode cX5_plan 88 = .ok (.aload_n 0, 1) := dk_42 (dk_at dksX5_plan_3 18 rfl rfl)
theorem dX5_plan_89 : decode cX5_plan 89 = .ok (.aload_n 0, 1) := dk_42 (dk_at dksX5_plan_3 19 rfl rfl)
theorem dX5_plan_90 : decode cX5_plan 90 = .ok (.getfield 33, 3) := dk_180 0 33 (dk_at dksX5_plan_3 20 rfl rfl)
theorem dX5_plan_93 : decode cX5_plan 93 = .ok (.bipush 106, 2) := dk_16 106 (dk_at dksX5_plan_4 0 rfl rfl)
theorem dX5_plan_95 : decode cX5_plan 95 = .ok (.iaload, 1) := dk_46 (dk_at dksX5_plan_4 2 rfl rfl)
theorem dX5_plan_96 : decode cX5_plan 96 = .ok (.aload_n 0, 1) := dk_42 (dk_at dksX5_plan_4 3 rfl rfl)
theorem dX5_plan_97 : decode cX5_plan 97 = .ok (.getfield 33, 3) := dk_180 0 33 (dk_at dksX5_plan_4 4 rfl rfl)
theorem dX5_plan_100 : decode cX5_plan 100 = .ok (.iconst 0, 1) := dk_3 (dk_at dksX5_plan_4 7 rfl rfl)
theorem dX5_plan_101 : decode cX5_plan 101 = .ok (.iaload, 1) := dk_46 (dk_at dksX5_plan_4 8 rfl rfl)
theorem dX5_plan_102 : decode cX5_plan 102 = .ok (.irem, 1) := dk_112 (dk_at dksX5_plan_4 9 rfl rfl)
theorem dX5_plan_103 : decode cX5_plan 103 = .ok (.putfield 357, 3) := dk_181 1 101 (dk_at dksX5_plan_4 10 rfl rfl)
theorem dX5_plan_106 : decode cX5_plan 106 = .ok (.aload_n 0, 1) := dk_42 (dk_at dksX5_plan_4 13 rfl rfl)
theorem dX5_plan_107 : decode cX5_plan 107 = .ok (.aload_n 0, 1) := dk_42 (dk_at dksX5_plan_4 14 rfl rfl)
theorem dX5_plan_108 : decode cX5_plan 108 = .ok (.getfield 33, 3) := dk_180 0 33 (dk_at dksX5_plan_4 15 rfl rfl)
theorem dX5_plan_111 : decode cX5_plan 111 = .ok (.iconst 0, 1) := dk_3 (dk_at dksX5_plan_4 18 rfl rfl)
theorem dX5_plan_112 : decode cX5_plan 112 = .ok (.iaload, 1) := dk_46 (dk_at dksX5_plan_4 19 rfl rfl)
theorem dX5_plan_113 : decode cX5_plan 113 = .ok (.putfield 360, 3) := dk_181 1 104 (dk_at dksX5_plan_4 20 rfl rfl)
theorem dX5_plan_116 : decode cX5_plan 116 = .ok (.aload_n 0, 1) := dk_42 (dk_at dksX5_plan_4 23 rfl rfl)
theorem dX5_plan_117 : decode cX5_plan 117 = .ok (.getfield 357, 3) := dk_180 1 101 (dk_at dksX5_plan_5 0 rfl rfl)
theorem dX5_plan_120 : decode cX5_plan 120 = .ok (.istore 5, 2) := dk_54 5 (dk_at dksX5_plan_5 3 rfl rfl)
theorem dX5_plan_122 : decode cX5_plan 122 = .ok (.iload 5, 2) := dk_21 5 (dk_at dksX5_plan_5 5 rfl rfl)
theorem dX5_plan_124 : decode cX5_plan 124 = .ok (.aload_n 0, 1) := dk_42 (dk_at dksX5_plan_5 7 rfl rfl)
theorem dX5_plan_125 : decode cX5_plan 125 = .ok (.getfield 360, 3) := dk_180 1 104 (dk_at dksX5_plan_5 8 rfl rfl)
theorem dX5_plan_128 : decode cX5_plan 128 = .ok (.if_icmp .ge 140, 3) := dk_162 0 140 (dk_at dksX5_plan_5 11 rfl rfl)
theorem dX5_plan_131 : decode cX5_plan 131 = .ok (.iload 5, 2) := dk_21 5 (dk_at dksX5_plan_5 14 rfl rfl)
theorem dX5_plan_133 : decode cX5_plan 133 = .ok (.aload_n 0, 1) := dk_42 (dk_at dksX5_plan_5 16 rfl rfl)
theorem dX5_plan_134 : decode cX5_plan 134 = .ok (.getfield 357, 3) := dk_180 1 101 (dk_at dksX5_plan_5 17 rfl rfl)
theorem dX5_plan_137 : decode cX5_plan 137 = .ok (.if_icmp .ne 20, 3) := dk_160 0 20 (dk_at dksX5_plan_5 20 rfl rfl)
theorem dX5_plan_140 : decode cX5_plan 140 = .ok (.aload_n 0, 1) := dk_42 (dk_at dksX5_plan_5 23 rfl rfl)
theorem dX5_plan_141 : decode cX5_plan 141 = .ok (.getfield 33, 3) := dk_180 0 33 (dk_at dksX5_plan_6 0 rfl rfl)
theorem dX5_plan_144 : decode cX5_plan 144 = .ok (.bipush 111, 2) := dk_16 111 (dk_at dksX5_plan_6 3 rfl rfl)
theorem dX5_plan_146 : decode cX5_plan 146 = .ok (.iload_n 1, 1) := dk_27 (dk_at dksX5_plan_6 5 rfl rfl)
theorem dX5_plan_147 : decode cX5_plan 147 = .ok (.iadd, 1) := dk_96 (dk_at dksX5_plan_6 6 rfl rfl)
theorem dX5_plan_148 : decode cX5_plan 148 = .ok (.iaload, 1) := dk_46 (dk_at dksX5_plan_6 7 rfl rfl)
theorem dX5_plan_149 : decode cX5_plan 149 = .ok (.iconst 1, 1) := dk_4 (dk_at dksX5_plan_6 8 rfl rfl)
theorem dX5_plan_150 : decode cX5_plan 150 = .ok (.if_icmp .ne 7, 3) := dk_160 0 7 (dk_at dksX5_plan_6 9 rfl rfl)
theorem dX5_plan_153 : decode cX5_plan 153 = .ok (.iconst 1, 1) := dk_4 (dk_at dksX5_plan_6 12 rfl rfl)
theorem dX5_plan_154 : decode cX5_plan 154 = .ok (.goto 4, 3) := dk_167 0 4 (dk_at dksX5_plan_6 13 rfl rfl)
theorem dX5_plan_157 : decode cX5_plan 157 = .ok (.iconst 0, 1) := dk_3 (dk_at dksX5_plan_6 16 rfl rfl)
theorem dX5_plan_158 : decode cX5_plan 158 = .ok (.istore 6, 2) := dk_54 6 (dk_at dksX5_plan_6 17 rfl rfl)
theorem dX5_plan_160 : decode cX5_plan 160 = .ok (.iconst 0, 1) := dk_3 (dk_at dksX5_plan_6 19 rfl rfl)
theorem dX5_plan_161 : decode cX5_plan 161 = .ok (.istore 7, 2) := dk_54 7 (dk_at dksX5_plan_6 20 rfl rfl)
theorem dX5_plan_163 : decode cX5_plan 163 = .ok (.iload 6, 2) := dk_21 6 (dk_at dksX5_plan_6 22 rfl rfl)
theorem dX5_plan_165 : decode cX5_plan 165 = .ok (.ifCond .ne 41, 3) := dk_154 0 41 (dk_at dksX5_plan_7 0 rfl rfl)
theorem dX5_plan_168 : decode cX5_plan 168 = .ok (.aload_n 0, 1) := dk_42 (dk_at dksX5_plan_7 3 rfl rfl)
theorem dX5_plan_169 : decode cX5_plan 169 = .ok (.iload 5, 2) := dk_21 5 (dk_at dksX5_plan_7 4 rfl rfl)
theorem dX5_plan_171 : decode cX5_plan 171 = .ok (.iload_n 3, 1) := dk_29 (dk_at dksX5_plan_7 6 rfl rfl)
theorem dX5_plan_172 : decode cX5_plan 172 = .ok (.iload 4, 2) := dk_21 4 (dk_at dksX5_plan_7 7 rfl rfl)
theorem dX5_plan_174 : decode cX5_plan 174 = .ok (.aload_n 0, 1) := dk_42 (dk_at dksX5_plan_7 9 rfl rfl)
theorem dX5_plan_175 : decode cX5_plan 175 = .ok (.iload 7, 2) := dk_21 7 (dk_at dksX5_plan_7 10 rfl rfl)
theorem dX5_plan_177 : decode cX5_plan 177 = .ok (.invokevirtual 339, 3) := dk_182 1 83 (dk_at dksX5_plan_7 12 rfl rfl)
theorem dX5_plan_180 : decode cX5_plan 180 = .ok (.invokevirtual 342, 3) := dk_182 1 86 (dk_at dksX5_plan_7 15 rfl rfl)
theorem dX5_plan_183 : decode cX5_plan 183 = .ok (.aload_n 0, 1) := dk_42 (dk_at dksX5_plan_7 18 rfl rfl)
theorem dX5_plan_184 : decode cX5_plan 184 = .ok (.getfield 60, 3) := dk_180 0 60 (dk_at dksX5_plan_7 19 rfl rfl)
theorem dX5_plan_187 : decode cX5_plan 187 = .ok (.aload_n 0, 1) := dk_42 (dk_at dksX5_plan_7 22 rfl rfl)
theorem dX5_plan_188 : decode cX5_plan 188 = .ok (.iload 5, 2) := dk_21 5 (dk_at dksX5_plan_8 0 rfl rfl)
theorem dX5_plan_190 : decode cX5_plan 190 = .ok (.iload_n 3, 1) := dk_29 (dk_at dksX5_plan_8 2 rfl rfl)
theorem dX5_plan_191 : decode cX5_plan 191 = .ok (.iload 4, 2) := dk_21 4 (dk_at dksX5_plan_8 3 rfl rfl)
theorem dX5_plan_193 : decode cX5_plan 193 = .ok (.invokevirtual 332, 3) := dk_182 1 76 (dk_at dksX5_plan_8 5 rfl rfl)
theorem dX5_plan_196 : decode cX5_plan 196 = .ok (.iaload, 1) := dk_46 (dk_at dksX5_plan_8 8 rfl rfl)
theorem dX5_plan_197 : decode cX5_plan 197 = .ok (.if_icmp .eq 9, 3) := dk_159 0 9 (dk_at dksX5_plan_8 9 rfl rfl)
theorem dX5_plan_200 : decode cX5_plan 200 = .ok (.iinc 7 1, 3) := dk_132 7 1 (dk_at dksX5_plan_8 12 rfl rfl)
theorem dX5_plan_203 : decode cX5_plan 203 = .ok (.goto (-40), 3) := dk_167 255 216 (dk_at dksX5_plan_8 15 rfl rfl)
theorem dX5_plan_206 : decode cX5_plan 206 = .ok (.aload_n 0, 1) := dk_42 (dk_at dksX5_plan_8 18 rfl rfl)
theorem dX5_plan_207 : decode cX5_plan 207 = .ok (.iload 7, 2) := dk_21 7 (dk_at dksX5_plan_8 19 rfl rfl)
theorem dX5_plan_209 : decode cX5_plan 209 = .ok (.invokevirtual 339, 3) := dk_182 1 83 (dk_at dksX5_plan_8 21 rfl rfl)
theorem dX5_plan_212 : decode cX5_plan 212 = .ok (.istore 8, 2) := dk_54 8 (dk_at dksX5_plan_9 0 rfl rfl)
theorem dX5_plan_214 : decode cX5_plan 214 = .ok (.aload_n 0, 1) := dk_42 (dk_at dksX5_plan_9 2 rfl rfl)
theorem dX5_plan_215 : decode cX5_plan 215 = .ok (.getfield 66, 3) := dk_180 0 66 (dk_at dksX5_plan_9 3 rfl rfl)
theorem dX5_plan_218 : decode cX5_plan 218 = .ok (.iload 5, 2) := dk_21 5 (dk_at dksX5_plan_9 6 rfl rfl)
theorem dX5_plan_220 : decode cX5_plan 220 = .ok (.iload 8, 2) := dk_21 8 (dk_at dksX5_plan_9 8 rfl rfl)
theorem dX5_plan_222 : decode cX5_plan 222 = .ok (.iastore, 1) := dk_79 (dk_at dksX5_plan_9 10 rfl rfl)
theorem dX5_plan_223 : decode cX5_plan 223 = .ok (.iload 8, 2) := dk_21 8 (dk_at dksX5_plan_9 11 rfl rfl)
theorem dX5_plan_225 : decode cX5_plan 225 = .ok (.sipush 200, 3) := dk_17 0 200 (dk_at dksX5_plan_9 13 rfl rfl)
theorem dX5_plan_228 : decode cX5_plan 228 = .ok (.if_icmp .lt 23, 3) := dk_161 0 23 (dk_at dksX5_plan_9 16 rfl rfl)
theorem dX5_plan_231 : decode cX5_plan 231 = .ok (.aload_n 0, 1) := dk_42 (dk_at dksX5_plan_9 19 rfl rfl)
theorem dX5_plan_232 : decode cX5_plan 232 = .ok (.iload 4, 2) := dk_21 4 (dk_at dksX5_plan_9 20 rfl rfl)
theorem dX5_plan_234 : decode cX5_plan 234 = .ok (.iload 5, 2) := dk_21 5 (dk_at dksX5_plan_9 22 rfl rfl)
theorem dX5_plan_236 : decode cX5_plan 236 = .ok (.iload_n 3, 1) := dk_29 (dk_at dksX5_plan_10 0 rfl rfl)
theorem dX5_plan_237 : decode cX5_plan 237 = .ok (.iload 8, 2) := dk_21 8 (dk_at dksX5_plan_10 1 rfl rfl)
theorem dX5_plan_239 : decode cX5_plan 239 = .ok (.sipush 200, 3) := dk_17 0 200 (dk_at dksX5_plan_10 3 rfl rfl)
theorem dX5_plan_242 : decode cX5_plan 242 = .ok (.isub, 1) := dk_100 (dk_at dksX5_plan_10 6 rfl rfl)
theorem dX5_plan_243 : decode cX5_plan 243 = .ok (.invokevirtual 335, 3) := dk_182 1 79 (dk_at dksX5_plan_10 7 rfl rfl)
theorem dX5_plan_246 : decode cX5_plan 246 = .ok (.istore 4, 2) := dk_54 4 (dk_at dksX5_plan_10 10 rfl rfl)
theorem dX5_plan_248 : decode cX5_plan 248 = .ok (.goto 14, 3) := dk_167 0 14 (dk_at dksX5_plan_10 12 rfl rfl)
theorem dX5_plan_251 : decode cX5_plan 251 = .ok (.iload 8, 2) := dk_21 8 (dk_at dksX5_plan_10 15 rfl rfl)
theorem dX5_plan_253 : decode cX5_plan 253 = .ok (.ifCond .le 9, 3) := dk_158 0 9 (dk_at dksX5_plan_10 17 rfl rfl)
theorem dX5_plan_256 : decode cX5_plan 256 = .ok (.iload 8, 2) := dk_21 8 (dk_at dksX5_plan_10 20 rfl rfl)
theorem dX5_plan_258 : decode cX5_plan 258 = .ok (.bipush 100, 2) := dk_16 100 (dk_at dksX5_plan_10 22 rfl rfl)
theorem dX5_plan_260 : decode cX5_plan 260 = .ok (.isub, 1) := dk_100 (dk_at dksX5_plan_11 0 rfl rfl)
theorem dX5_plan_261 : decode cX5_plan 261 = .ok (.istore_n 3, 1) := dk_62 (dk_at dksX5_plan_11 1 rfl rfl)
theorem dX5_plan_262 : decode cX5_plan 262 = .ok (.iinc 5 1, 3) := dk_132 5 1 (dk_at dksX5_plan_11 2 rfl rfl)
theorem dX5_plan_265 : decode cX5_plan 265 = .ok (.goto (-143), 3) := dk_167 255 113 (dk_at dksX5_plan_11 5 rfl rfl)
theorem dX5_plan_268 : decode cX5_plan 268 = .ok (.iload_n 2, 1) := dk_28 (dk_at dksX5_plan_11 8 rfl rfl)
theorem dX5_plan_269 : decode cX5_plan 269 = .ok (.ireturn, 1) := dk_172 (dk_at dksX5_plan_11 9 rfl rfl)
abbrev cX5_isPlanned : ByteArray := prog_26_method_81_code
def yX5_isPlanned : MethodName := ⟨RX5, "isPlanned", "(I)Z"⟩
def dkwX5_isPlanned_1 : List UInt8 := [162, 0, 7, 4, 167, 0, 4, 3, 172]
abbrev dktX5_isPlanned_1 : List UInt8 := dkwX5_isPlanned_1 ++ []
def dkwX5_isPlanned_0 : List UInt8 := [42, 27, 182, 0, 251, 153, 0, 26, 42, 182, 1, 7, 154, 0, 19, 42, 27, 182, 1, 89, 184, 1, 92, 8]
abbrev dktX5_isPlanned_0 : List UInt8 := dkwX5_isPlanned_0 ++ dktX5_isPlanned_1
theorem dksX5_isPlanned_0 : cX5_isPlanned.data.toList.drop 0 = dktX5_isPlanned_0 := by decide +kernel
theorem dksX5_isPlanned_1 : cX5_isPlanned.data.toList.drop 24 = dktX5_isPlanned_1 := dk_seg dksX5_isPlanned_0 24 rfl rfl
theorem dX5_isPlanned_0 : decode cX5_isPlanned 0 = .ok (.aload_n 0, 1) := dk_42 (dk_at dksX5_isPlanned_0 0 rfl rfl)
theorem dX5_isPlanned_1 : decode cX5_isPlanned 1 = .ok (.iload_n 1, 1) := dk_27 (dk_at dksX5_isPlanned_0 1 rfl rfl)
theorem dX5_isPlanned_2 : decode cX5_isPlanned 2 = .ok (.invokevirtual 251, 3) := dk_182 0 251 (dk_at dksX5_isPlanned_0 2 rfl rfl)
theorem dX5_isPlanned_5 : decode cX5_isPlanned 5 = .ok (.ifCond .eq 26, 3) := dk_153 0 26 (dk_at dksX5_isPlanned_0 5 rfl rfl)
theorem dX5_isPlanned_8 : decode cX5_isPlanned 8 = .ok (.aload_n 0, 1) := dk_42 (dk_at dksX5_isPlanned_0 8 rfl rfl)
theorem dX5_isPlanned_9 : decode cX5_isPlanned 9 = .ok (.invokevirtual 263, 3) := dk_182 1 7 (dk_at dksX5_isPlanned_0 9 rfl rfl)
theorem dX5_isPlanned_12 : decode cX5_isPlanned 12 = .ok (.ifCond .ne 19, 3) := dk_154 0 19 (dk_at dksX5_isPlanned_0 12 rfl rfl)
theorem dX5_isPlanned_15 : decode cX5_isPlanned 15 = .ok (.aload_n 0, 1) := dk_42 (dk_at dksX5_isPlanned_0 15 rfl rfl)
theorem dX5_isPlanned_16 : decode cX5_isPlanned 16 = .ok (.iload_n 1, 1) := dk_27 (dk_at dksX5_isPlanned_0 16 rfl rfl)
theorem dX5_isPlanned_17 : decode cX5_isPlanned 17 = .ok (.invokevirtual 345, 3) := dk_182 1 89 (dk_at dksX5_isPlanned_0 17 rfl rfl)
theorem dX5_isPlanned_20 : decode cX5_isPlanned 20 = .ok (.invokestatic 348, 3) := dk_184 1 92 (dk_at dksX5_isPlanned_0 20 rfl rfl)
theorem dX5_isPlanned_23 : decode cX5_isPlanned 23 = .ok (.iconst 5, 1) := dk_8 (dk_at dksX5_isPlanned_0 23 rfl rfl)
theorem dX5_isPlanned_24 : decode cX5_isPlanned 24 = .ok (.if_icmp .ge 7, 3) := dk_162 0 7 (dk_at dksX5_isPlanned_1 0 rfl rfl)
theorem dX5_isPlanned_27 : decode cX5_isPlanned 27 = .ok (.iconst 1, 1) := dk_4 (dk_at dksX5_isPlanned_1 3 rfl rfl)
theorem dX5_isPlanned_28 : decode cX5_isPlanned 28 = .ok (.goto 4, 3) := dk_167 0 4 (dk_at dksX5_isPlanned_1 4 rfl rfl)
theorem dX5_isPlanned_31 : decode cX5_isPlanned 31 = .ok (.iconst 0, 1) := dk_3 (dk_at dksX5_isPlanned_1 7 rfl rfl)
theorem dX5_isPlanned_32 : decode cX5_isPlanned 32 = .ok (.ireturn, 1) := dk_172 (dk_at dksX5_isPlanned_1 8 rfl rfl)
abbrev cX5_dueSet : ByteArray := prog_26_method_80_code
def yX5_dueSet : MethodName := ⟨RX5, "dueSet", "(I)I"⟩
def dkwX5_dueSet_2 : List UInt8 := [132, 3, 1, 167, 255, 210, 28, 172]
abbrev dktX5_dueSet_2 : List UInt8 := dkwX5_dueSet_2 ++ []
def dkwX5_dueSet_1 : List UInt8 := [46, 27, 160, 0, 18, 42, 29, 3, 182, 1, 64, 153, 0, 9, 4, 29, 120, 167, 0, 4, 3, 128, 61]
abbrev dktX5_dueSet_1 : List UInt8 := dkwX5_dueSet_1 ++ dktX5_dueSet_2
def dkwX5_dueSet_0 : List UInt8 := [3, 61, 3, 62, 29, 42, 180, 0, 33, 16, 6, 46, 162, 0, 41, 28, 42, 180, 0, 33, 16, 26, 29, 96]
abbrev dktX5_dueSet_0 : List UInt8 := dkwX5_dueSet_0 ++ dktX5_dueSet_1
theorem dksX5_dueSet_0 : cX5_dueSet.data.toList.drop 0 = dktX5_dueSet_0 := by decide +kernel
theorem dksX5_dueSet_1 : cX5_dueSet.data.toList.drop 24 = dktX5_dueSet_1 := dk_seg dksX5_dueSet_0 24 rfl rfl
theorem dksX5_dueSet_2 : cX5_dueSet.data.toList.drop 47 = dktX5_dueSet_2 := dk_seg dksX5_dueSet_1 23 rfl rfl
theorem dX5_dueSet_0 : decode cX5_dueSet 0 = .ok (.iconst 0, 1) := dk_3 (dk_at dksX5_dueSet_0 0 rfl rfl)
theorem dX5_dueSet_1 : decode cX5_dueSet 1 = .ok (.istore_n 2, 1) := dk_61 (dk_at dksX5_dueSet_0 1 rfl rfl)
theorem dX5_dueSet_2 : decode cX5_dueSet 2 = .ok (.iconst 0, 1) := dk_3 (dk_at dksX5_dueSet_0 2 rfl rfl)
theorem dX5_dueSet_3 : decode cX5_dueSet 3 = .ok (.istore_n 3, 1) := dk_62 (dk_at dksX5_dueSet_0 3 rfl rfl)
theorem dX5_dueSet_4 : decode cX5_dueSet 4 = .ok (.iload_n 3, 1) := dk_29 (dk_at dksX5_dueSet_0 4 rfl rfl)
theorem dX5_dueSet_5 : decode cX5_dueSet 5 = .ok (.aload_n 0, 1) := dk_42 (dk_at dksX5_dueSet_0 5 rfl rfl)
theorem dX5_dueSet_6 : decode cX5_dueSet 6 = .ok (.getfield 33, 3) := dk_180 0 33 (dk_at dksX5_dueSet_0 6 rfl rfl)
theorem dX5_dueSet_9 : decode cX5_dueSet 9 = .ok (.bipush 6, 2) := dk_16 6 (dk_at dksX5_dueSet_0 9 rfl rfl)
theorem dX5_dueSet_11 : decode cX5_dueSet 11 = .ok (.iaload, 1) := dk_46 (dk_at dksX5_dueSet_0 11 rfl rfl)
theorem dX5_dueSet_12 : decode cX5_dueSet 12 = .ok (.if_icmp .ge 41, 3) := dk_162 0 41 (dk_at dksX5_dueSet_0 12 rfl rfl)
theorem dX5_dueSet_15 : decode cX5_dueSet 15 = .ok (.iload_n 2, 1) := dk_28 (dk_at dksX5_dueSet_0 15 rfl rfl)
theorem dX5_dueSet_16 : decode cX5_dueSet 16 = .ok (.aload_n 0, 1) := dk_42 (dk_at dksX5_dueSet_0 16 rfl rfl)
theorem dX5_dueSet_17 : decode cX5_dueSet 17 = .ok (.getfield 33, 3) := dk_180 0 33 (dk_at dksX5_dueSet_0 17 rfl rfl)
theorem dX5_dueSet_20 : decode cX5_dueSet 20 = .ok (.bipush 26, 2) := dk_16 26 (dk_at dksX5_dueSet_0 20 rfl rfl)
theorem dX5_dueSet_22 : decode cX5_dueSet 22 = .ok (.iload_n 3, 1) := dk_29 (dk_at dksX5_dueSet_0 22 rfl rfl)
theorem dX5_dueSet_23 : decode cX5_dueSet 23 = .ok (.iadd, 1) := dk_96 (dk_at dksX5_dueSet_0 23 rfl rfl)
theorem dX5_dueSet_24 : decode cX5_dueSet 24 = .ok (.iaload, 1) := dk_46 (dk_at dksX5_dueSet_1 0 rfl rfl)
theorem dX5_dueSet_25 : decode cX5_dueSet 25 = .ok (.iload_n 1, 1) := dk_27 (dk_at dksX5_dueSet_1 1 rfl rfl)
theorem dX5_dueSet_26 : decode cX5_dueSet 26 = .ok (.if_icmp .ne 18, 3) := dk_160 0 18 (dk_at dksX5_dueSet_1 2 rfl rfl)
theorem dX5_dueSet_29 : decode cX5_dueSet 29 = .ok (.aload_n 0, 1) := dk_42 (dk_at dksX5_dueSet_1 5 rfl rfl)
theorem dX5_dueSet_30 : decode cX5_dueSet 30 = .ok (.iload_n 3, 1) := dk_29 (dk_at dksX5_dueSet_1 6 rfl rfl)
theorem dX5_dueSet_31 : decode cX5_dueSet 31 = .ok (.iconst 0, 1) := dk_3 (dk_at dksX5_dueSet_1 7 rfl rfl)
theorem dX5_dueSet_32 : decode cX5_dueSet 32 = .ok (.invokevirtual 320, 3) := dk_182 1 64 (dk_at dksX5_dueSet_1 8 rfl rfl)
theorem dX5_dueSet_35 : decode cX5_dueSet 35 = .ok (.ifCond .eq 9, 3) := dk_153 0 9 (dk_at dksX5_dueSet_1 11 rfl rfl)
theorem dX5_dueSet_38 : decode cX5_dueSet 38 = .ok (.iconst 1, 1) := dk_4 (dk_at dksX5_dueSet_1 14 rfl rfl)
theorem dX5_dueSet_39 : decode cX5_dueSet 39 = .ok (.iload_n 3, 1) := dk_29 (dk_at dksX5_dueSet_1 15 rfl rfl)
theorem dX5_dueSet_40 : decode cX5_dueSet 40 = .ok (.ishl, 1) := dk_120 (dk_at dksX5_dueSet_1 16 rfl rfl)
theorem dX5_dueSet_41 : decode cX5_dueSet 41 = .ok (.goto 4, 3) := dk_167 0 4 (dk_at dksX5_dueSet_1 17 rfl rfl)
theorem dX5_dueSet_44 : decode cX5_dueSet 44 = .ok (.iconst 0, 1) := dk_3 (dk_at dksX5_dueSet_1 20 rfl rfl)
theorem dX5_dueSet_45 : decode cX5_dueSet 45 = .ok (.ior, 1) := dk_128 (dk_at dksX5_dueSet_1 21 rfl rfl)
theorem dX5_dueSet_46 : decode cX5_dueSet 46 = .ok (.istore_n 2, 1) := dk_61 (dk_at dksX5_dueSet_1 22 rfl rfl)
theorem dX5_dueSet_47 : decode cX5_dueSet 47 = .ok (.iinc 3 1, 3) := dk_132 3 1 (dk_at dksX5_dueSet_2 0 rfl rfl)
theorem dX5_dueSet_50 : decode cX5_dueSet 50 = .ok (.goto (-46), 3) := dk_167 255 210 (dk_at dksX5_dueSet_2 3 rfl rfl)
theorem dX5_dueSet_53 : decode cX5_dueSet 53 = .ok (.iload_n 2, 1) := dk_28 (dk_at dksX5_dueSet_2 6 rfl rfl)
theorem dX5_dueSet_54 : decode cX5_dueSet 54 = .ok (.ireturn, 1) := dk_172 (dk_at dksX5_dueSet_2 7 rfl rfl)
abbrev cX5_bits : ByteArray := prog_26_method_10_code
def yX5_bits : MethodName := ⟨RX5, "bits", "(I)I"⟩
def dkwX5_bits_0 : List UInt8 := [3, 60, 26, 61, 28, 153, 0, 15, 132, 1, 1, 28, 28, 4, 100, 126, 61, 167, 255, 243, 27, 172]
abbrev dktX5_bits_0 : List UInt8 := dkwX5_bits_0 ++ []
theorem dksX5_bits_0 : cX5_bits.data.toList.drop 0 = dktX5_bits_0 := by decide +kernel
theorem dX5_bits_0 : decode cX5_bits 0 = .ok (.iconst 0, 1) := dk_3 (dk_at dksX5_bits_0 0 rfl rfl)
theorem dX5_bits_1 : decode cX5_bits 1 = .ok (.istore_n 1, 1) := dk_60 (dk_at dksX5_bits_0 1 rfl rfl)
theorem dX5_bits_2 : decode cX5_bits 2 = .ok (.iload_n 0, 1) := dk_26 (dk_at dksX5_bits_0 2 rfl rfl)
theorem dX5_bits_3 : decode cX5_bits 3 = .ok (.istore_n 2, 1) := dk_61 (dk_at dksX5_bits_0 3 rfl rfl)
theorem dX5_bits_4 : decode cX5_bits 4 = .ok (.iload_n 2, 1) := dk_28 (dk_at dksX5_bits_0 4 rfl rfl)
theorem dX5_bits_5 : decode cX5_bits 5 = .ok (.ifCond .eq 15, 3) := dk_153 0 15 (dk_at dksX5_bits_0 5 rfl rfl)
theorem dX5_bits_8 : decode cX5_bits 8 = .ok (.iinc 1 1, 3) := dk_132 1 1 (dk_at dksX5_bits_0 8 rfl rfl)
theorem dX5_bits_11 : decode cX5_bits 11 = .ok (.iload_n 2, 1) := dk_28 (dk_at dksX5_bits_0 11 rfl rfl)
theorem dX5_bits_12 : decode cX5_bits 12 = .ok (.iload_n 2, 1) := dk_28 (dk_at dksX5_bits_0 12 rfl rfl)
theorem dX5_bits_13 : decode cX5_bits 13 = .ok (.iconst 1, 1) := dk_4 (dk_at dksX5_bits_0 13 rfl rfl)
theorem dX5_bits_14 : decode cX5_bits 14 = .ok (.isub, 1) := dk_100 (dk_at dksX5_bits_0 14 rfl rfl)
theorem dX5_bits_15 : decode cX5_bits 15 = .ok (.iand, 1) := dk_126 (dk_at dksX5_bits_0 15 rfl rfl)
theorem dX5_bits_16 : decode cX5_bits 16 = .ok (.istore_n 2, 1) := dk_61 (dk_at dksX5_bits_0 16 rfl rfl)
theorem dX5_bits_17 : decode cX5_bits 17 = .ok (.goto (-13), 3) := dk_167 255 243 (dk_at dksX5_bits_0 17 rfl rfl)
theorem dX5_bits_20 : decode cX5_bits 20 = .ok (.iload_n 1, 1) := dk_27 (dk_at dksX5_bits_0 20 rfl rfl)
theorem dX5_bits_21 : decode cX5_bits 21 = .ok (.ireturn, 1) := dk_172 (dk_at dksX5_bits_0 21 rfl rfl)
abbrev cX5_plansFor : ByteArray := prog_26_method_79_code
def yX5_plansFor : MethodName := ⟨RX5, "plansFor", "(II)I"⟩
def dkwX5_plansFor_14 : List UInt8 := [46, 29, 182, 1, 76, 46, 172]
abbrev dktX5_plansFor_14 : List UInt8 := dkwX5_plansFor_14 ++ []
def dkwX5_plansFor_13 : List UInt8 := [167, 255, 80, 132, 6, 255, 167, 255, 64, 42, 180, 0, 60, 42, 21, 4, 42, 180, 0, 33, 16, 107, 27, 96]
abbrev dktX5_plansFor_13 : List UInt8 := dkwX5_plansFor_13 ++ dktX5_plansFor_14
def dkwX5_plansFor_12 : List UInt8 := [21, 8, 182, 1, 76, 21, 9, 17, 3, 232, 184, 1, 39, 79, 132, 8, 1, 167, 255, 100, 132, 7, 1]
abbrev dktX5_plansFor_12 : List UInt8 := dkwX5_plansFor_12 ++ dktX5_plansFor_13
def dkwX5_plansFor_11 : List UInt8 := [182, 1, 86, 184, 1, 39, 54, 9, 132, 11, 1, 167, 255, 203, 42, 180, 0, 60, 42, 21, 6, 21, 7]
abbrev dktX5_plansFor_11 : List UInt8 := dkwX5_plansFor_11 ++ dktX5_plansFor_12
def dkwX5_plansFor_10 : List UInt8 := [4, 167, 0, 5, 21, 5, 162, 0, 32, 21, 9, 42, 21, 6, 21, 7, 21, 8, 42, 21, 11, 182, 1, 83]
abbrev dktX5_plansFor_10 : List UInt8 := dkwX5_plansFor_10 ++ dktX5_plansFor_11
def dkwX5_plansFor_9 : List UInt8 := [3, 54, 10, 3, 54, 11, 21, 6, 42, 180, 0, 33, 3, 46, 162, 0, 48, 21, 11, 21, 10, 153, 0, 7]
abbrev dktX5_plansFor_9 : List UInt8 := dkwX5_plansFor_9 ++ dktX5_plansFor_10
def dkwX5_plansFor_8 : List UInt8 := [21, 6, 21, 4, 160, 0, 20, 42, 180, 0, 33, 16, 111, 27, 96, 46, 4, 160, 0, 7, 4, 167, 0, 4]
abbrev dktX5_plansFor_8 : List UInt8 := dkwX5_plansFor_8 ++ dktX5_plansFor_9
def dkwX5_plansFor_7 : List UInt8 := [162, 0, 9, 17, 3, 232, 167, 0, 15, 21, 8, 154, 0, 7, 3, 167, 0, 6, 17, 3, 232, 54, 9]
abbrev dktX5_plansFor_7 : List UInt8 := dkwX5_plansFor_7 ++ dktX5_plansFor_8
def dkwX5_plansFor_6 : List UInt8 := [3, 54, 8, 21, 8, 4, 5, 42, 180, 1, 70, 104, 120, 162, 0, 149, 21, 6, 42, 180, 0, 33, 3, 46]
abbrev dktX5_plansFor_6 : List UInt8 := dkwX5_plansFor_6 ++ dktX5_plansFor_7
def dkwX5_plansFor_5 : List UInt8 := [46, 54, 6, 21, 6, 21, 4, 161, 0, 191, 3, 54, 7, 21, 7, 42, 180, 0, 33, 4, 46, 162, 0, 171]
abbrev dktX5_plansFor_5 : List UInt8 := dkwX5_plansFor_5 ++ dktX5_plansFor_6
def dkwX5_plansFor_4 : List UInt8 := [54, 4, 4, 42, 180, 0, 33, 4, 46, 96, 42, 180, 0, 33, 8, 46, 96, 54, 5, 42, 180, 0, 33, 3]
abbrev dktX5_plansFor_4 : List UInt8 := dkwX5_plansFor_4 ++ dktX5_plansFor_5
def dkwX5_plansFor_3 : List UInt8 := [181, 1, 70, 132, 4, 1, 167, 255, 191, 42, 180, 0, 33, 16, 106, 46, 42, 180, 0, 33, 3, 46, 112]
abbrev dktX5_plansFor_3 : List UInt8 := dkwX5_plansFor_3 ++ dktX5_plansFor_4
def dkwX5_plansFor_2 : List UInt8 := [21, 4, 3, 182, 1, 67, 5, 42, 180, 1, 70, 104, 120, 128, 62, 42, 89, 180, 1, 70, 4, 96]
abbrev dktX5_plansFor_2 : List UInt8 := dkwX5_plansFor_2 ++ dktX5_plansFor_3
def dkwX5_plansFor_1 : List UInt8 := [21, 4, 184, 0, 223, 154, 0, 6, 167, 0, 41, 42, 180, 0, 63, 42, 180, 1, 70, 21, 4, 79, 29, 42]
abbrev dktX5_plansFor_1 : List UInt8 := dkwX5_plansFor_1 ++ dktX5_plansFor_2
def dkwX5_plansFor_0 : List UInt8 := [42, 3, 181, 1, 70, 3, 62, 3, 54, 4, 21, 4, 42, 180, 0, 33, 16, 6, 46, 162, 0, 59, 28]
abbrev dktX5_plansFor_0 : List UInt8 := dkwX5_plansFor_0 ++ dktX5_plansFor_1
theorem dksX5_plansFor_0 : cX5_plansFor.data.toList.drop 0 = dktX5_plansFor_0 := by decide +kernel
theorem dksX5_plansFor_1 : cX5_plansFor.data.toList.drop 23 = dktX5_plansFor_1 := dk_seg dksX5_plansFor_0 23 rfl rfl
theorem dksX5_plansFor_2 : cX5_plansFor.data.toList.drop 47 = dktX5_plansFor_2 := dk_seg dksX5_plansFor_1 24 rfl rfl
theorem dksX5_plansFor_3 : cX5_plansFor.data.toList.drop 69 = dktX5_plansFor_3 := dk_seg dksX5_plansFor_2 22 rfl rfl
theorem dksX5_plansFor_4 : cX5_plansFor.data.toList.drop 92 = dktX5_plansFor_4 := dk_seg dksX5_plansFor_3 23 rfl rfl
theorem dksX5_plansFor_5 : cX5_plansFor.data.toList.drop 116 = dktX5_plansFor_5 := dk_seg dksX5_plansFor_4 24 rfl rfl
theorem dksX5_plansFor_6 : cX5_plansFor.data.toList.drop 140 = dktX5_plansFor_6 := dk_seg dksX5_plansFor_5 24 rfl rfl
theorem dksX5_plansFor_7 : cX5_plansFor.data.toList.drop 164 = dktX5_plansFor_7 := dk_seg dksX5_plansFor_6 24 rfl rfl
theorem dksX5_plansFor_8 : cX5_plansFor.data.toList.drop 187 = dktX5_plansFor_8 := dk_seg dksX5_plansFor_7 23 rfl rfl
theorem dksX5_plansFor_9 : cX5_plansFor.data.toList.drop 211 = dktX5_plansFor_9 := dk_seg dksX5_plansFor_8 24 rfl rfl
theorem dksX5_plansFor_10 : cX5_plansFor.data.toList.drop 235 = dktX5_plansFor_10 := dk_seg dksX5_plansFor_9 24 rfl rfl
theorem dksX5_plansFor_11 : cX5_plansFor.data.toList.drop 259 = dktX5_plansFor_11 := dk_seg dksX5_plansFor_10 24 rfl rfl
theorem dksX5_plansFor_12 : cX5_plansFor.data.toList.drop 282 = dktX5_plansFor_12 := dk_seg dksX5_plansFor_11 23 rfl rfl
theorem dksX5_plansFor_13 : cX5_plansFor.data.toList.drop 305 = dktX5_plansFor_13 := dk_seg dksX5_plansFor_12 23 rfl rfl
theorem dksX5_plansFor_14 : cX5_plansFor.data.toList.drop 329 = dktX5_plansFor_14 := dk_seg dksX5_plansFor_13 24 rfl rfl
theorem dX5_plansFor_0 : decode cX5_plansFor 0 = .ok (.aload_n 0, 1) := dk_42 (dk_at dksX5_plansFor_0 0 rfl rfl)
theorem dX5_plansFor_1 : decode cX5_plansFor 1 = .ok (.iconst 0, 1) := dk_3 (dk_at dksX5_plansFor_0 1 rfl rfl)
theorem dX5_plansFor_2 : decode cX5_plansFor 2 = .ok (.putfield 326, 3) := dk_181 1 70 (dk_at dksX5_plansFor_0 2 rfl rfl)
theorem dX5_plansFor_5 : decode cX5_plansFor 5 = .ok (.iconst 0, 1) := dk_3 (dk_at dksX5_plansFor_0 5 rfl rfl)
theorem dX5_plansFor_6 : decode cX5_plansFor 6 = .ok (.istore_n 3, 1) := dk_62 (dk_at dksX5_plansFor_0 6 rfl rfl)
theorem dX5_plansFor_7 : decode cX5_plansFor 7 = .ok (.iconst 0, 1) := dk_3 (dk_at dksX5_plansFor_0 7 rfl rfl)
theorem dX5_plansFor_8 : decode cX5_plansFor 8 = .ok (.istore 4, 2) := dk_54 4 (dk_at dksX5_plansFor_0 8 rfl rfl)
theorem dX5_plansFor_10 : decode cX5_plansFor 10 = .ok (.iload 4, 2) := dk_21 4 (dk_at dksX5_plansFor_0 10 rfl rfl)
theorem dX5_plansFor_12 : decode cX5_plansFor 12 = .ok (.aload_n 0, 1) := dk_42 (dk_at dksX5_plansFor_0 12 rfl rfl)
theorem dX5_plansFor_13 : decode cX5_plansFor 13 = .ok (.getfield 33, 3) := dk_180 0 33 (dk_at dksX5_plansFor_0 13 rfl rfl)
theorem dX5_plansFor_16 : decode cX5_plansFor 16 = .ok (.bipush 6, 2) := dk_16 6 (dk_at dksX5_plansFor_0 16 rfl rfl)
theorem dX5_plansFor_18 : decode cX5_plansFor 18 = .ok (.iaload, 1) := dk_46 (dk_at dksX5_plansFor_0 18 rfl rfl)
theorem dX5_plansFor_19 : decode cX5_plansFor 19 = .ok (.if_icmp .ge 59, 3) := dk_162 0 59 (dk_at dksX5_plansFor_0 19 rfl rfl)
theorem dX5_plansFor_22 : decode cX5_plansFor 22 = .ok (.iload_n 2, 1) := dk_28 (dk_at dksX5_plansFor_0 22 rfl rfl)
theorem dX5_plansFor_23 : decode cX5_plansFor 23 = .ok (.iload 4, 2) := dk_21 4 (dk_at dksX5_plansFor_1 0 rfl rfl)
theorem dX5_plansFor_25 : decode cX5_plansFor 25 = .ok (.invokestatic 223, 3) := dk_184 0 223 (dk_at dksX5_plansFor_1 2 rfl rfl)
theorem dX5_plansFor_28 : decode cX5_plansFor 28 = .ok (.ifCond .ne 6, 3) := dk_154 0 6 (dk_at dksX5_plansFor_1 5 rfl rfl)
theorem dX5_plansFor_31 : decode cX5_plansFor 31 = .ok (.goto 41, 3) := dk_167 0 41 (dk_at dksX5_plansFor_1 8 rfl rfl)
theorem dX5_plansFor_34 : decode cX5_plansFor 34 = .ok (.aload_n 0, 1) := dk_42 (dk_at dksX5_plansFor_1 11 rfl rfl)
theorem dX5_plansFor_35 : decode cX5_plansFor 35 = .ok (.getfield 63, 3) := dk_180 0 63 (dk_at dksX5_plansFor_1 12 rfl rfl)
theorem dX5_plansFor_38 : decode cX5_plansFor 38 = .ok (.aload_n 0, 1) := dk_42 (dk_at dksX5_plansFor_1 15 rfl rfl)
theorem dX5_plansFor_39 : decode cX5_plansFor 39 = .ok (.getfield 326, 3) := dk_180 1 70 (dk_at dksX5_plansFor_1 16 rfl rfl)
theorem dX5_plansFor_42 : decode cX5_plansFor 42 = .ok (.iload 4, 2) := dk_21 4 (dk_at dksX5_plansFor_1 19 rfl rfl)
theorem dX5_plansFor_44 : decode cX5_plansFor 44 = .ok (.iastore, 1) := dk_79 (dk_at dksX5_plansFor_1 21 rfl rfl)
theorem dX5_plansFor_45 : decode cX5_plansFor 45 = .ok (.iload_n 3, 1) := dk_29 (dk_at dksX5_plansFor_1 22 rfl rfl)
theorem dX5_plansFor_46 : decode cX5_plansFor 46 = .ok (.aload_n 0, 1) := dk_42 (dk_at dksX5_plansFor_1 23 rfl rfl)
theorem dX5_plansFor_47 : decode cX5_plansFor 47 = .ok (.iload 4, 2) := dk_21 4 (dk_at dksX5_plansFor_2 0 rfl rfl)
theorem dX5_plansFor_49 : decode cX5_plansFor 49 = .ok (.iconst 0, 1) := dk_3 (dk_at dksX5_plansFor_2 2 rfl rfl)
theorem dX5_plansFor_50 : decode cX5_plansFor 50 = .ok (.invokevirtual 323, 3) := dk_182 1 67 (dk_at dksX5_plansFor_2 3 rfl rfl)
theorem dX5_plansFor_53 : decode cX5_plansFor 53 = .ok (.iconst 2, 1) := dk_5 (dk_at dksX5_plansFor_2 6 rfl rfl)
theorem dX5_plansFor_54 : decode cX5_plansFor 54 = .ok (.aload_n 0, 1) := dk_42 (dk_at dksX5_plansFor_2 7 rfl rfl)
theorem dX5_plansFor_55 : decode cX5_plansFor 55 = .ok (.getfield 326, 3) := dk_180 1 70 (dk_at dksX5_plansFor_2 8 rfl rfl)
theorem dX5_plansFor_58 : decode cX5_plansFor 58 = .ok (.imul, 1) := dk_104 (dk_at dksX5_plansFor_2 11 rfl rfl)
theorem dX5_plansFor_59 : decode cX5_plansFor 59 = .ok (.ishl, 1) := dk_120 (dk_at dksX5_plansFor_2 12 rfl rfl)
theorem dX5_plansFor_60 : decode cX5_plansFor 60 = .ok (.ior, 1) := dk_128 (dk_at dksX5_plansFor_2 13 rfl rfl)
theorem dX5_plansFor_61 : decode cX5_plansFor 61 = .ok (.istore_n 3, 1) := dk_62 (dk_at dksX5_plansFor_2 14 rfl rfl)
theorem dX5_plansFor_62 : decode cX5_plansFor 62 = .ok (.aload_n 0, 1) := dk_42 (dk_at dksX5_plansFor_2 15 rfl rfl)
theorem dX5_plansFor_63 : decode cX5_plansFor 63 = .ok (.dup, 1) := dk_89 (dk_at dksX5_plansFor_2 16 rfl rfl)
theorem dX5_plansFor_64 : decode cX5_plansFor 64 = .ok (.getfield 326, 3) := dk_180 1 70 (dk_at dksX5_plansFor_2 17 rfl rfl)
theorem dX5_plansFor_67 : decode cX5_plansFor 67 = .ok (.iconst 1, 1) := dk_4 (dk_at dksX5_plansFor_2 20 rfl rfl)
theorem dX5_plansFor_68 : decode cX5_plansFor 68 = .ok (.iadd, 1) := dk_96 (dk_at dksX5_plansFor_2 21 rfl rfl)
theorem dX5_plansFor_69 : decode cX5_plansFor 69 = .ok (.putfield 326, 3) := dk_181 1 70 (dk_at dksX5_plansFor_3 0 rfl rfl)
theorem dX5_plansFor_72 : decode cX5_plansFor 72 = .ok (.iinc 4 1, 3) := dk_132 4 1 (dk_at dksX5_plansFor_3 3 rfl rfl)
theorem dX5_plansFor_75 : decode cX5_plansFor 75 = .ok (.goto (-65), 3) := dk_167 255 191 (dk_at dksX5_plansFor_3 6 rfl rfl)
theorem dX5_plansFor_78 : decode cX5_plansFor 78 = .ok (.aload_n 0, 1) := dk_42 (dk_at dksX5_plansFor_3 9 rfl rfl)
theorem dX5_plansFor_79 : decode cX5_plansFor 79 = .ok (.getfield 33, 3) := dk_180 0 33 (dk_at dksX5_plansFor_3 10 rfl rfl)
theorem dX5_plansFor_82 : decode cX5_plansFor 82 = .ok (.bipush 106, 2) := dk_16 106 (dk_at dksX5_plansFor_3 13 rfl rfl)
theorem dX5_plansFor_84 : decode cX5_plansFor 84 = .ok (.iaload, 1) := dk_46 (dk_at dksX5_plansFor_3 15 rfl rfl)
theorem dX5_plansFor_85 : decode cX5_plansFor 85 = .ok (.aload_n 0, 1) := dk_42 (dk_at dksX5_plansFor_3 16 rfl rfl)
theorem dX5_plansFor_86 : decode cX5_plansFor 86 = .ok (.getfield 33, 3) := dk_180 0 33 (dk_at dksX5_plansFor_3 17 rfl rfl)
theorem dX5_plansFor_89 : decode cX5_plansFor 89 = .ok (.iconst 0, 1) := dk_3 (dk_at dksX5_plansFor_3 20 rfl rfl)
theorem dX5_plansFor_90 : decode cX5_plansFor 90 = .ok (.iaload, 1) := dk_46 (dk_at dksX5_plansFor_3 21 rfl rfl)
theorem dX5_plansFor_91 : decode cX5_plansFor 91 = .ok (.irem, 1) := dk_112 (dk_at dksX5_plansFor_3 22 rfl rfl)
theorem dX5_plansFor_92 : decode cX5_plansFor 92 = .ok (.istore 4, 2) := dk_54 4 (dk_at dksX5_plansFor_4 0 rfl rfl)
theorem dX5_plansFor_94 : decode cX5_plansFor 94 = .ok (.iconst 1, 1) := dk_4 (dk_at dksX5_plansFor_4 2 rfl rfl)
theorem dX5_plansFor_95 : decode cX5_plansFor 95 = .ok (.aload_n 0, 1) := dk_42 (dk_at dksX5_plansFor_4 3 rfl rfl)
theorem dX5_plansFor_96 : decode cX5_plansFor 96 = .ok (.getfield 33, 3) := dk_180 0 33 (dk_at dksX5_plansFor_4 4 rfl rfl)
theorem dX5_plansFor_99 : decode cX5_plansFor 99 = .ok (.iconst 1, 1) := dk_4 (dk_at dksX5_plansFor_4 7 rfl rfl)
theorem dX5_plansFor_100 : decode cX5_plansFor 100 = .ok (.iaload, 1) := dk_46 (dk_at dksX5_plansFor_4 8 rfl rfl)
theorem dX5_plansFor_101 : decode cX5_plansFor 101 = .ok (.iadd, 1) := dk_96 (dk_at dksX5_plansFor_4 9 rfl rfl)
theorem dX5_plansFor_102 : decode cX5_plansFor 102 = .ok (.aload_n 0, 1) := dk_42 (dk_at dksX5_plansFor_4 10 rfl rfl)
theorem dX5_plansFor_103 : decode cX5_plansFor 103 = .ok (.getfield 33, 3) := dk_180 0 33 (dk_at dksX5_plansFor_4 11 rfl rfl)
theorem dX5_plansFor_106 : decode cX5_plansFor 106 = .ok (.iconst 5, 1) := dk_8 (dk_at dksX5_plansFor_4 14 rfl rfl)
theorem dX5_plansFor_107 : decode cX5_plansFor 107 = .ok (.iaload, 1) := dk_46 (dk_at dksX5_plansFor_4 15 rfl rfl)
theorem dX5_plansFor_108 : decode cX5_plansFor 108 = .ok (.iadd, 1) := dk_96 (dk_at dksX5_plansFor_4 16 rfl rfl)
theorem dX5_plansFor_109 : decode cX5_plansFor 109 = .ok (.istore 5, 2) := dk_54 5 (dk_at dksX5_plansFor_4 17 rfl rfl)
theorem dX5_plansFor_111 : decode cX5_plansFor 111 = .ok (.aload_n 0, 1) := dk_42 (dk_at dksX5_plansFor_4 19 rfl rfl)
theorem dX5_plansFor_112 : decode cX5_plansFor 112 = .ok (.getfield 33, 3) := dk_180 0 33 (dk_at dksX5_plansFor_4 20 rfl rfl)
theorem dX5_plansFor_115 : decode cX5_plansFor 115 = .ok (.iconst 0, 1) := dk_3 (dk_at dksX5_plansFor_4 23 rfl rfl)
theorem dX5_plansFor_116 : decode cX5_plansFor 116 = .ok (.iaload, 1) := dk_46 (dk_at dksX5_plansFor_5 0 rfl rfl)
theorem dX5_plansFor_117 : decode cX5_plansFor 117 = .ok (.istore 6, 2) := dk_54 6 (dk_at dksX5_plansFor_5 1 rfl rfl)
theorem dX5_plansFor_119 : decode cX5_plansFor 119 = .ok (.iload 6, 2) := dk_21 6 (dk_at dksX5_plansFor_5 3 rfl rfl)
theorem dX5_plansFor_121 : decode cX5_plansFor 121 = .ok (.iload 4, 2) := dk_21 4 (dk_at dksX5_plansFor_5 5 rfl rfl)
theorem dX5_plansFor_123 : decode cX5_plansFor 123 = .ok (.if_icmp .lt 191, 3) := dk_161 0 191 (dk_at dksX5_plansFor_5 7 rfl rfl)
theorem dX5_plansFor_126 : decode cX5_plansFor 126 = .ok (.iconst 0, 1) := dk_3 (dk_at dksX5_plansFor_5 10 rfl rfl)
theorem dX5_plansFor_127 : decode cX5_plansFor 127 = .ok (.istore 7, 2) := dk_54 7 (dk_at dksX5_plansFor_5 11 rfl rfl)
theorem dX5_plansFor_129 : decode cX5_plansFor 129 = .ok (.iload 7, 2) := dk_21 7 (dk_at dksX5_plansFor_5 13 rfl rfl)
theorem dX5_plansFor_131 : decode cX5_plansFor 131 = .ok (.aload_n 0, 1) := dk_42 (dk_at dksX5_plansFor_5 15 rfl rfl)
theorem dX5_plansFor_132 : decode cX5_plansFor 132 = .ok (.getfield 33, 3) := dk_180 0 33 (dk_at dksX5_plansFor_5 16 rfl rfl)
theorem dX5_plansFor_135 : decode cX5_plansFor 135 = .ok (.iconst 1, 1) := dk_4 (dk_at dksX5_plansFor_5 19 rfl rfl)
theorem dX5_plansFor_136 : decode cX5_plansFor 136 = .ok (.iaload, 1) := dk_46 (dk_at dksX5_plansFor_5 20 rfl rfl)
theorem dX5_plansFor_137 : decode cX5_plansFor 137 = .ok (.if_icmp .ge 171, 3) := dk_162 0 171 (dk_at dksX5_plansFor_5 21 rfl rfl)
theorem dX5_plansFor_140 : decode cX5_plansFor 140 = .ok (.iconst 0, 1) := dk_3 (dk_at dksX5_plansFor_6 0 rfl rfl)
theorem dX5_plansFor_141 : decode cX5_plansFor 141 = .ok (.istore 8, 2) := dk_54 8 (dk_at dksX5_plansFor_6 1 rfl rfl)
theorem dX5_plansFor_143 : decode cX5_plansFor 143 = .ok (.iload 8, 2) := dk_21 8 (dk_at dksX5_plansFor_6 3 rfl rfl)
theorem dX5_plansFor_145 : decode cX5_plansFor 145 = .ok (.iconst 1, 1) := dk_4 (dk_at dksX5_plansFor_6 5 rfl rfl)
theorem dX5_plansFor_146 : decode cX5_plansFor 146 = .ok (.iconst 2, 1) := dk_5 (dk_at dksX5_plansFor_6 6 rfl rfl)
theorem dX5_plansFor_147 : decode cX5_plansFor 147 = .ok (.aload_n 0, 1) := dk_42 (dk_at dksX5_plansFor_6 7 rfl rfl)
theorem dX5_plansFor_148 : decode cX5_plansFor 148 = .ok (.getfield 326, 3) := dk_180 1 70 (dk_at dksX5_plansFor_6 8 rfl rfl)
theorem dX5_plansFor_151 : decode cX5_plansFor 151 = .ok (.imul, 1) := dk_104 (dk_at dksX5_plansFor_6 11 rfl rfl)
theorem dX5_plansFor_152 : decode cX5_plansFor 152 = .ok (.ishl, 1) := dk_120 (dk_at dksX5_plansFor_6 12 rfl rfl)
theorem dX5_plansFor_153 : decode cX5_plansFor 153 = .ok (.if_icmp .ge 149, 3) := dk_162 0 149 (dk_at dksX5_plansFor_6 13 rfl rfl)
theorem dX5_plansFor_156 : decode cX5_plansFor 156 = .ok (.iload 6, 2) := dk_21 6 (dk_at dksX5_plansFor_6 16 rfl rfl)
theorem dX5_plansFor_158 : decode cX5_plansFor 158 = .ok (.aload_n 0, 1) := dk_42 (dk_at dksX5_plansFor_6 18 rfl rfl)
theorem dX5_plansFor_159 : decode cX5_plansFor 159 = .ok (.getfield 33, 3) := dk_180 0 33 (dk_at dksX5_plansFor_6 19 rfl rfl)
theorem dX5_plansFor_162 : decode cX5_plansFor 162 = .ok (.iconst 0, 1) := dk_3 (dk_at dksX5_plansFor_6 22 rfl rfl)
theorem dX5_plansFor_163 : decode cX5_plansFor 163 = .ok (.iaload, 1) := dk_46 (dk_at dksX5_plansFor_6 23 rfl rfl)
theorem dX5_plansFor_164 : decode cX5_plansFor 164 = .ok (.if_icmp .ge 9, 3) := dk_162 0 9 (dk_at dksX5_plansFor_7 0 rfl rfl)
theorem dX5_plansFor_167 : decode cX5_plansFor 167 = .ok (.sipush 1000, 3) := dk_17 3 232 (dk_at dksX5_plansFor_7 3 rfl rfl)
theorem dX5_plansFor_170 : decode cX5_plansFor 170 = .ok (.goto 15, 3) := dk_167 0 15 (dk_at dksX5_plansFor_7 6 rfl rfl)
theorem dX5_plansFor_173 : decode cX5_plansFor 173 = .ok (.iload 8, 2) := dk_21 8 (dk_at dksX5_plansFor_7 9 rfl rfl)
theorem dX5_plansFor_175 : decode cX5_plansFor 175 = .ok (.ifCond .ne 7, 3) := dk_154 0 7 (dk_at dksX5_plansFor_7 11 rfl rfl)
theorem dX5_plansFor_178 : decode cX5_plansFor 178 = .ok (.iconst 0, 1) := dk_3 (dk_at dksX5_plansFor_7 14 rfl rfl)
theorem dX5_plansFor_179 : decode cX5_plansFor 179 = .ok (.goto 6, 3) := dk_167 0 6 (dk_at dksX5_plansFor_7 15 rfl rfl)
theorem dX5_plansFor_182 : decode cX5_plansFor 182 = .ok (.sipush 1000, 3) := dk_17 3 232 (dk_at dksX5_plansFor_7 18 rfl rfl)
theorem dX5_plansFor_185 : decode cX5_plansFor 185 = .ok (.istore 9, 2) := dk_54 9 (dk_at dksX5_plansFor_7 21 rfl rfl)
theorem dX5_plansFor_187 : decode cX5_plansFor 187 = .ok (.iload 6, 2) := dk_21 6 (dk_at dksX5_plansFor_8 0 rfl rfl)
theorem dX5_plansFor_189 : decode cX5_plansFor 189 = .ok (.iload 4, 2) := dk_21 4 (dk_at dksX5_plansFor_8 2 rfl rfl)
theorem dX5_plansFor_191 : decode cX5_plansFor 191 = .ok (.if_icmp .ne 20, 3) := dk_160 0 20 (dk_at dksX5_plansFor_8 4 rfl rfl)
theorem dX5_plansFor_194 : decode cX5_plansFor 194 = .ok (.aload_n 0, 1) := dk_42 (dk_at dksX5_plansFor_8 7 rfl rfl)
theorem dX5_plansFor_195 : decode cX5_plansFor 195 = .ok (.getfield 33, 3) := dk_180 0 33 (dk_at dksX5_plansFor_8 8 rfl rfl)
theorem dX5_plansFor_198 : decode cX5_plansFor 198 = .ok (.bipush 111, 2) := dk_16 111 (dk_at dksX5_plansFor_8 11 rfl rfl)
theorem dX5_plansFor_200 : decode cX5_plansFor 200 = .ok (.iload_n 1, 1) := dk_27 (dk_at dksX5_plansFor_8 13 rfl rfl)
theorem dX5_plansFor_201 : decode cX5_plansFor 201 = .ok (.iadd, 1) := dk_96 (dk_at dksX5_plansFor_8 14 rfl rfl)
theorem dX5_plansFor_202 : decode cX5_plansFor 202 = .ok (.iaload, 1) := dk_46 (dk_at dksX5_plansFor_8 15 rfl rfl)
theorem dX5_plansFor_203 : decode cX5_plansFor 203 = .ok (.iconst 1, 1) := dk_4 (dk_at dksX5_plansFor_8 16 rfl rfl)
theorem dX5_plansFor_204 : decode cX5_plansFor 204 = .ok (.if_icmp .ne 7, 3) := dk_160 0 7 (dk_at dksX5_plansFor_8 17 rfl rfl)
theorem dX5_plansFor_207 : decode cX5_plansFor 207 = .ok (.iconst 1, 1) := dk_4 (dk_at dksX5_plansFor_8 20 rfl rfl)
theorem dX5_plansFor_208 : decode cX5_plansFor 208 = .ok (.goto 4, 3) := dk_167 0 4 (dk_at dksX5_plansFor_8 21 rfl rfl)
theorem dX5_plansFor_211 : decode cX5_plansFor 211 = .ok (.iconst 0, 1) := dk_3 (dk_at dksX5_plansFor_9 0 rfl rfl)
theorem dX5_plansFor_212 : decode cX5_plansFor 212 = .ok (.istore 10, 2) := dk_54 10 (dk_at dksX5_plansFor_9 1 rfl rfl)
theorem dX5_plansFor_214 : decode cX5_plansFor 214 = .ok (.iconst 0, 1) := dk_3 (dk_at dksX5_plansFor_9 3 rfl rfl)
theorem dX5_plansFor_215 : decode cX5_plansFor 215 = .ok (.istore 11, 2) := dk_54 11 (dk_at dksX5_plansFor_9 4 rfl rfl)
theorem dX5_plansFor_217 : decode cX5_plansFor 217 = .ok (.iload 6, 2) := dk_21 6 (dk_at dksX5_plansFor_9 6 rfl rfl)
theorem dX5_plansFor_219 : decode cX5_plansFor 219 = .ok (.aload_n 0, 1) := dk_42 (dk_at dksX5_plansFor_9 8 rfl rfl)
theorem dX5_plansFor_220 : decode cX5_plansFor 220 = .ok (.getfield 33, 3) := dk_180 0 33 (dk_at dksX5_plansFor_9 9 rfl rfl)
theorem dX5_plansFor_223 : decode cX5_plansFor 223 = .ok (.iconst 0, 1) := dk_3 (dk_at dksX5_plansFor_9 12 rfl rfl)
theorem dX5_plansFor_224 : decode cX5_plansFor 224 = .ok (.iaload, 1) := dk_46 (dk_at dksX5_plansFor_9 13 rfl rfl)
theorem dX5_plansFor_225 : decode cX5_plansFor 225 = .ok (.if_icmp .ge 48, 3) := dk_162 0 48 (dk_at dksX5_plansFor_9 14 rfl rfl)
theorem dX5_plansFor_228 : decode cX5_plansFor 228 = .ok (.iload 11, 2) := dk_21 11 (dk_at dksX5_plansFor_9 17 rfl rfl)
theorem dX5_plansFor_230 : decode cX5_plansFor 230 = .ok (.iload 10, 2) := dk_21 10 (dk_at dksX5_plansFor_9 19 rfl rfl)
theorem dX5_plansFor_232 : decode cX5_plansFor 232 = .ok (.ifCond .eq 7, 3) := dk_153 0 7 (dk_at dksX5_plansFor_9 21 rfl rfl)
theorem dX5_plansFor_235 : decode cX5_plansFor 235 = .ok (.iconst 1, 1) := dk_4 (dk_at dksX5_plansFor_10 0 rfl rfl)
theorem dX5_plansFor_236 : decode cX5_plansFor 236 = .ok (.goto 5, 3) := dk_167 0 5 (dk_at dksX5_plansFor_10 1 rfl rfl)
theorem dX5_plansFor_239 : decode cX5_plansFor 239 = .ok (.iload 5, 2) := dk_21 5 (dk_at dksX5_plansFor_10 4 rfl rfl)
theorem dX5_plansFor_241 : decode cX5_plansFor 241 = .ok (.if_icmp .ge 32, 3) := dk_162 0 32 (dk_at dksX5_plansFor_10 6 rfl rfl)
theorem dX5_plansFor_244 : decode cX5_plansFor 244 = .ok (.iload 9, 2) := dk_21 9 (dk_at dksX5_plansFor_10 9 rfl rfl)
theorem dX5_plansFor_246 : decode cX5_plansFor 246 = .ok (.aload_n 0, 1) := dk_42 (dk_at dksX5_plansFor_10 11 rfl rfl)
theorem dX5_plansFor_247 : decode cX5_plansFor 247 = .ok (.iload 6, 2) := dk_21 6 (dk_at dksX5_plansFor_10 12 rfl rfl)
theorem dX5_plansFor_249 : decode cX5_plansFor 249 = .ok (.iload 7, 2) := dk_21 7 (dk_at dksX5_plansFor_10 14 rfl rfl)
theorem dX5_plansFor_251 : decode cX5_plansFor 251 = .ok (.iload 8, 2) := dk_21 8 (dk_at dksX5_plansFor_10 16 rfl rfl)
theorem dX5_plansFor_253 : decode cX5_plansFor 253 = .ok (.aload_n 0, 1) := dk_42 (dk_at dksX5_plansFor_10 18 rfl rfl)
theorem dX5_plansFor_254 : decode cX5_plansFor 254 = .ok (.iload 11, 2) := dk_21 11 (dk_at dksX5_plansFor_10 19 rfl rfl)
theorem dX5_plansFor_256 : decode cX5_plansFor 256 = .ok (.invokevirtual 339, 3) := dk_182 1 83 (dk_at dksX5_plansFor_10 21 rfl rfl)
theorem dX5_plansFor_259 : decode cX5_plansFor 259 = .ok (.invokevirtual 342, 3) := dk_182 1 86 (dk_at dksX5_plansFor_11 0 rfl rfl)
theorem dX5_plansFor_262 : decode cX5_plansFor 262 = .ok (.invokestatic 295, 3) := dk_184 1 39 (dk_at dksX5_plansFor_11 3 rfl rfl)
theorem dX5_plansFor_265 : decode cX5_plansFor 265 = .ok (.istore 9, 2) := dk_54 9 (dk_at dksX5_plansFor_11 6 rfl rfl)
theorem dX5_plansFor_267 : decode cX5_plansFor 267 = .ok (.iinc 11 1, 3) := dk_132 11 1 (dk_at dksX5_plansFor_11 8 rfl rfl)
theorem dX5_plansFor_270 : decode cX5_plansFor 270 = .ok (.goto (-53), 3) := dk_167 255 203 (dk_at dksX5_plansFor_11 11 rfl rfl)
theorem dX5_plansFor_273 : decode cX5_plansFor 273 = .ok (.aload_n 0, 1) := dk_42 (dk_at dksX5_plansFor_11 14 rfl rfl)
theorem dX5_plansFor_274 : decode cX5_plansFor 274 = .ok (.getfield 60, 3) := dk_180 0 60 (dk_at dksX5_plansFor_11 15 rfl rfl)
theorem dX5_plansFor_277 : decode cX5_plansFor 277 = .ok (.aload_n 0, 1) := dk_42 (dk_at dksX5_plansFor_11 18 rfl rfl)
theorem dX5_plansFor_278 : decode cX5_plansFor 278 = .ok (.iload 6, 2) := dk_21 6 (dk_at dksX5_plansFor_11 19 rfl rfl)
theorem dX5_plansFor_280 : decode cX5_plansFor 280 = .ok (.iload 7, 2) := dk_21 7 (dk_at dksX5_plansFor_11 21 rfl rfl)
theorem dX5_plansFor_282 : decode cX5_plansFor 282 = .ok (.iload 8, 2) := dk_21 8 (dk_at dksX5_plansFor_12 0 rfl rfl)
theorem dX5_plansFor_284 : decode cX5_plansFor 284 = .ok (.invokevirtual 332, 3) := dk_182 1 76 (dk_at dksX5_plansFor_12 2 rfl rfl)
theorem dX5_plansFor_287 : decode cX5_plansFor 287 = .ok (.iload 9, 2) := dk_21 9 (dk_at dksX5_plansFor_12 5 rfl rfl)
theorem dX5_plansFor_289 : decode cX5_plansFor 289 = .ok (.sipush 1000, 3) := dk_17 3 232 (dk_at dksX5_plansFor_12 7 rfl rfl)
theorem dX5_plansFor_292 : decode cX5_plansFor 292 = .ok (.invokestatic 295, 3) := dk_184 1 39 (dk_at dksX5_plansFor_12 10 rfl rfl)
theorem dX5_plansFor_295 : decode cX5_plansFor 295 = .ok (.iastore, 1) := dk_79 (dk_at dksX5_plansFor_12 13 rfl rfl)
theorem dX5_plansFor_296 : decode cX5_plansFor 296 = .ok (.iinc 8 1, 3) := dk_132 8 1 (dk_at dksX5_plansFor_12 14 rfl rfl)
theorem dX5_plansFor_299 : decode cX5_plansFor 299 = .ok (.goto (-156), 3) := dk_167 255 100 (dk_at dksX5_plansFor_12 17 rfl rfl)
theorem dX5_plansFor_302 : decode cX5_plansFor 302 = .ok (.iinc 7 1, 3) := dk_132 7 1 (dk_at dksX5_plansFor_12 20 rfl rfl)
theorem dX5_plansFor_305 : decode cX5_plansFor 305 = .ok (.goto (-176), 3) := dk_167 255 80 (dk_at dksX5_plansFor_13 0 rfl rfl)
theorem dX5_plansFor_308 : decode cX5_plansFor 308 = .ok (.iinc 6 (-1), 3) := dk_132 6 255 (dk_at dksX5_plansFor_13 3 rfl rfl)
theorem dX5_plansFor_311 : decode cX5_plansFor 311 = .ok (.goto (-192), 3) := dk_167 255 64 (dk_at dksX5_plansFor_13 6 rfl rfl)
theorem dX5_plansFor_314 : decode cX5_plansFor 314 = .ok (.aload_n 0, 1) := dk_42 (dk_at dksX5_plansFor_13 9 rfl rfl)
theorem dX5_plansFor_315 : decode cX5_plansFor 315 = .ok (.getfield 60, 3) := dk_180 0 60 (dk_at dksX5_plansFor_13 10 rfl rfl)
theorem dX5_plansFor_318 : decode cX5_plansFor 318 = .ok (.aload_n 0, 1) := dk_42 (dk_at dksX5_plansFor_13 13 rfl rfl)
theorem dX5_plansFor_319 : decode cX5_plansFor 319 = .ok (.iload 4, 2) := dk_21 4 (dk_at dksX5_plansFor_13 14 rfl rfl)
theorem dX5_plansFor_321 : decode cX5_plansFor 321 = .ok (.aload_n 0, 1) := dk_42 (dk_at dksX5_plansFor_13 16 rfl rfl)
theorem dX5_plansFor_322 : decode cX5_plansFor 322 = .ok (.getfield 33, 3) := dk_180 0 33 (dk_at dksX5_plansFor_13 17 rfl rfl)
theorem dX5_plansFor_325 : decode cX5_plansFor 325 = .ok (.bipush 107, 2) := dk_16 107 (dk_at dksX5_plansFor_13 20 rfl rfl)
theorem dX5_plansFor_327 : decode cX5_plansFor 327 = .ok (.iload_n 1, 1) := dk_27 (dk_at dksX5_plansFor_13 22 rfl rfl)
theorem dX5_plansFor_328 : decode cX5_plansFor 328 = .ok (.iadd, 1) := dk_96 (dk_at dksX5_plansFor_13 23 rfl rfl)
theorem dX5_plansFor_329 : decode cX5_plansFor 329 = .ok (.iaload, 1) := dk_46 (dk_at dksX5_plansFor_14 0 rfl rfl)
theorem dX5_plansFor_330 : decode cX5_plansFor 330 = .ok (.iload_n 3, 1) := dk_29 (dk_at dksX5_plansFor_14 1 rfl rfl)
theorem dX5_plansFor_331 : decode cX5_plansFor 331 = .ok (.invokevirtual 332, 3) := dk_182 1 76 (dk_at dksX5_plansFor_14 2 rfl rfl)
theorem dX5_plansFor_334 : decode cX5_plansFor 334 = .ok (.iaload, 1) := dk_46 (dk_at dksX5_plansFor_14 5 rfl rfl)
theorem dX5_plansFor_335 : decode cX5_plansFor 335 = .ok (.ireturn, 1) := dk_172 (dk_at dksX5_plansFor_14 6 rfl rfl)
abbrev cX5_choiceOf : ByteArray := prog_26_method_78_code
def yX5_choiceOf : MethodName := ⟨RX5, "choiceOf", "(I)I"⟩
def dkwX5_choiceOf_1 : List UInt8 := [167, 0, 15, 17, 0, 199, 27, 96, 42, 180, 0, 33, 4, 46, 100, 172]
abbrev dktX5_choiceOf_1 : List UInt8 := dkwX5_choiceOf_1 ++ []
def dkwX5_choiceOf_0 : List UInt8 := [27, 154, 0, 7, 3, 167, 0, 32, 27, 42, 180, 0, 33, 4, 46, 163, 0, 10, 16, 99, 27, 96]
abbrev dktX5_choiceOf_0 : List UInt8 := dkwX5_choiceOf_0 ++ dktX5_choiceOf_1
theorem dksX5_choiceOf_0 : cX5_choiceOf.data.toList.drop 0 = dktX5_choiceOf_0 := by decide +kernel
theorem dksX5_choiceOf_1 : cX5_choiceOf.data.toList.drop 22 = dktX5_choiceOf_1 := dk_seg dksX5_choiceOf_0 22 rfl rfl
theorem dX5_choiceOf_0 : decode cX5_choiceOf 0 = .ok (.iload_n 1, 1) := dk_27 (dk_at dksX5_choiceOf_0 0 rfl rfl)
theorem dX5_choiceOf_1 : decode cX5_choiceOf 1 = .ok (.ifCond .ne 7, 3) := dk_154 0 7 (dk_at dksX5_choiceOf_0 1 rfl rfl)
theorem dX5_choiceOf_4 : decode cX5_choiceOf 4 = .ok (.iconst 0, 1) := dk_3 (dk_at dksX5_choiceOf_0 4 rfl rfl)
theorem dX5_choiceOf_5 : decode cX5_choiceOf 5 = .ok (.goto 32, 3) := dk_167 0 32 (dk_at dksX5_choiceOf_0 5 rfl rfl)
theorem dX5_choiceOf_8 : decode cX5_choiceOf 8 = .ok (.iload_n 1, 1) := dk_27 (dk_at dksX5_choiceOf_0 8 rfl rfl)
theorem dX5_choiceOf_9 : decode cX5_choiceOf 9 = .ok (.aload_n 0, 1) := dk_42 (dk_at dksX5_choiceOf_0 9 rfl rfl)
theorem dX5_choiceOf_10 : decode cX5_choiceOf 10 = .ok (.getfield 33, 3) := dk_180 0 33 (dk_at dksX5_choiceOf_0 10 rfl rfl)
theorem dX5_choiceOf_13 : decode cX5_choiceOf 13 = .ok (.iconst 1, 1) := dk_4 (dk_at dksX5_choiceOf_0 13 rfl rfl)
theorem dX5_choiceOf_14 : decode cX5_choiceOf 14 = .ok (.iaload, 1) := dk_46 (dk_at dksX5_choiceOf_0 14 rfl rfl)
theorem dX5_choiceOf_15 : decode cX5_choiceOf 15 = .ok (.if_icmp .gt 10, 3) := dk_163 0 10 (dk_at dksX5_choiceOf_0 15 rfl rfl)
theorem dX5_choiceOf_18 : decode cX5_choiceOf 18 = .ok (.bipush 99, 2) := dk_16 99 (dk_at dksX5_choiceOf_0 18 rfl rfl)
theorem dX5_choiceOf_20 : decode cX5_choiceOf 20 = .ok (.iload_n 1, 1) := dk_27 (dk_at dksX5_choiceOf_0 20 rfl rfl)
theorem dX5_choiceOf_21 : decode cX5_choiceOf 21 = .ok (.iadd, 1) := dk_96 (dk_at dksX5_choiceOf_0 21 rfl rfl)
theorem dX5_choiceOf_22 : decode cX5_choiceOf 22 = .ok (.goto 15, 3) := dk_167 0 15 (dk_at dksX5_choiceOf_1 0 rfl rfl)
theorem dX5_choiceOf_25 : decode cX5_choiceOf 25 = .ok (.sipush 199, 3) := dk_17 0 199 (dk_at dksX5_choiceOf_1 3 rfl rfl)
theorem dX5_choiceOf_28 : decode cX5_choiceOf 28 = .ok (.iload_n 1, 1) := dk_27 (dk_at dksX5_choiceOf_1 6 rfl rfl)
theorem dX5_choiceOf_29 : decode cX5_choiceOf 29 = .ok (.iadd, 1) := dk_96 (dk_at dksX5_choiceOf_1 7 rfl rfl)
theorem dX5_choiceOf_30 : decode cX5_choiceOf 30 = .ok (.aload_n 0, 1) := dk_42 (dk_at dksX5_choiceOf_1 8 rfl rfl)
theorem dX5_choiceOf_31 : decode cX5_choiceOf 31 = .ok (.getfield 33, 3) := dk_180 0 33 (dk_at dksX5_choiceOf_1 9 rfl rfl)
theorem dX5_choiceOf_34 : decode cX5_choiceOf 34 = .ok (.iconst 1, 1) := dk_4 (dk_at dksX5_choiceOf_1 12 rfl rfl)
theorem dX5_choiceOf_35 : decode cX5_choiceOf 35 = .ok (.iaload, 1) := dk_46 (dk_at dksX5_choiceOf_1 13 rfl rfl)
theorem dX5_choiceOf_36 : decode cX5_choiceOf 36 = .ok (.isub, 1) := dk_100 (dk_at dksX5_choiceOf_1 14 rfl rfl)
theorem dX5_choiceOf_37 : decode cX5_choiceOf 37 = .ok (.ireturn, 1) := dk_172 (dk_at dksX5_choiceOf_1 15 rfl rfl)
abbrev cX5_goingsBy : ByteArray := prog_26_method_77_code
def yX5_goingsBy : MethodName := ⟨RX5, "goingsBy", "(IIII)I"⟩
def dkwX5_goingsBy_4 : List UInt8 := [17, 0, 200, 100, 182, 1, 79, 182, 1, 76, 46, 172]
abbrev dktX5_goingsBy_4 : List UInt8 := dkwX5_goingsBy_4 ++ []
def dkwX5_goingsBy_3 : List UInt8 := [167, 0, 6, 17, 3, 232, 172, 42, 180, 0, 60, 42, 27, 4, 96, 28, 42, 29, 27, 28, 21, 4]
abbrev dktX5_goingsBy_3 : List UInt8 := dkwX5_goingsBy_3 ++ dktX5_goingsBy_4
def dkwX5_goingsBy_2 : List UInt8 := [153, 0, 26, 4, 42, 180, 0, 60, 42, 27, 4, 96, 21, 4, 16, 100, 100, 29, 182, 1, 76, 46, 96]
abbrev dktX5_goingsBy_2 : List UInt8 := dkwX5_goingsBy_2 ++ dktX5_goingsBy_3
def dkwX5_goingsBy_1 : List UInt8 := [17, 0, 200, 162, 0, 50, 42, 180, 0, 33, 16, 8, 28, 96, 46, 21, 4, 16, 100, 100, 184, 0, 223]
abbrev dktX5_goingsBy_1 : List UInt8 := dkwX5_goingsBy_1 ++ dktX5_goingsBy_2
def dkwX5_goingsBy_0 : List UInt8 := [21, 4, 154, 0, 18, 42, 180, 0, 60, 42, 27, 4, 96, 28, 29, 182, 1, 76, 46, 172, 21, 4]
abbrev dktX5_goingsBy_0 : List UInt8 := dkwX5_goingsBy_0 ++ dktX5_goingsBy_1
theorem dksX5_goingsBy_0 : cX5_goingsBy.data.toList.drop 0 = dktX5_goingsBy_0 := by decide +kernel
theorem dksX5_goingsBy_1 : cX5_goingsBy.data.toList.drop 22 = dktX5_goingsBy_1 := dk_seg dksX5_goingsBy_0 22 rfl rfl
theorem dksX5_goingsBy_2 : cX5_goingsBy.data.toList.drop 45 = dktX5_goingsBy_2 := dk_seg dksX5_goingsBy_1 23 rfl rfl
theorem dksX5_goingsBy_3 : cX5_goingsBy.data.toList.drop 68 = dktX5_goingsBy_3 := dk_seg dksX5_goingsBy_2 23 rfl rfl
theorem dksX5_goingsBy_4 : cX5_goingsBy.data.toList.drop 90 = dktX5_goingsBy_4 := dk_seg dksX5_goingsBy_3 22 rfl rfl
theorem dX5_goingsBy_0 : decode cX5_goingsBy 0 = .ok (.iload 4, 2) := dk_21 4 (dk_at dksX5_goingsBy_0 0 rfl rfl)
theorem dX5_goingsBy_2 : decode cX5_goingsBy 2 = .ok (.ifCond .ne 18, 3) := dk_154 0 18 (dk_at dksX5_goingsBy_0 2 rfl rfl)
theorem dX5_goingsBy_5 : decode cX5_goingsBy 5 = .ok (.aload_n 0, 1) := dk_42 (dk_at dksX5_goingsBy_0 5 rfl rfl)
theorem dX5_goingsBy_6 : decode cX5_goingsBy 6 = .ok (.getfield 60, 3) := dk_180 0 60 (dk_at dksX5_goingsBy_0 6 rfl rfl)
theorem dX5_goingsBy_9 : decode cX5_goingsBy 9 = .ok (.aload_n 0, 1) := dk_42 (dk_at dksX5_goingsBy_0 9 rfl rfl)
theorem dX5_goingsBy_10 : decode cX5_goingsBy 10 = .ok (.iload_n 1, 1) := dk_27 (dk_at dksX5_goingsBy_0 10 rfl rfl)
theorem dX5_goingsBy_11 : decode cX5_goingsBy 11 = .ok (.iconst 1, 1) := dk_4 (dk_at dksX5_goingsBy_0 11 rfl rfl)
theorem dX5_goingsBy_12 : decode cX5_goingsBy 12 = .ok (.iadd, 1) := dk_96 (dk_at dksX5_goingsBy_0 12 rfl rfl)
theorem dX5_goingsBy_13 : decode cX5_goingsBy 13 = .ok (.iload_n 2, 1) := dk_28 (dk_at dksX5_goingsBy_0 13 rfl rfl)
theorem dX5_goingsBy_14 : decode cX5_goingsBy 14 = .ok (.iload_n 3, 1) := dk_29 (dk_at dksX5_goingsBy_0 14 rfl rfl)
theorem dX5_goingsBy_15 : decode cX5_goingsBy 15 = .ok (.invokevirtual 332, 3) := dk_182 1 76 (dk_at dksX5_goingsBy_0 15 rfl rfl)
theorem dX5_goingsBy_18 : decode cX5_goingsBy 18 = .ok (.iaload, 1) := dk_46 (dk_at dksX5_goingsBy_0 18 rfl rfl)
theorem dX5_goingsBy_19 : decode cX5_goingsBy 19 = .ok (.ireturn, 1) := dk_172 (dk_at dksX5_goingsBy_0 19 rfl rfl)
theorem dX5_goingsBy_20 : decode cX5_goingsBy 20 = .ok (.iload 4, 2) := dk_21 4 (dk_at dksX5_goingsBy_0 20 rfl rfl)
theorem dX5_goingsBy_22 : decode cX5_goingsBy 22 = .ok (.sipush 200, 3) := dk_17 0 200 (dk_at dksX5_goingsBy_1 0 rfl rfl)
theorem dX5_goingsBy_25 : decode cX5_goingsBy 25 = .ok (.if_icmp .ge 50, 3) := dk_162 0 50 (dk_at dksX5_goingsBy_1 3 rfl rfl)
theorem dX5_goingsBy_28 : decode cX5_goingsBy 28 = .ok (.aload_n 0, 1) := dk_42 (dk_at dksX5_goingsBy_1 6 rfl rfl)
theorem dX5_goingsBy_29 : decode cX5_goingsBy 29 = .ok (.getfield 33, 3) := dk_180 0 33 (dk_at dksX5_goingsBy_1 7 rfl rfl)
theorem dX5_goingsBy_32 : decode cX5_goingsBy 32 = .ok (.bipush 8, 2) := dk_16 8 (dk_at dksX5_goingsBy_1 10 rfl rfl)
theorem dX5_goingsBy_34 : decode cX5_goingsBy 34 = .ok (.iload_n 2, 1) := dk_28 (dk_at dksX5_goingsBy_1 12 rfl rfl)
theorem dX5_goingsBy_35 : decode cX5_goingsBy 35 = .ok (.iadd, 1) := dk_96 (dk_at dksX5_goingsBy_1 13 rfl rfl)
theorem dX5_goingsBy_36 : decode cX5_goingsBy 36 = .ok (.iaload, 1) := dk_46 (dk_at dksX5_goingsBy_1 14 rfl rfl)
theorem dX5_goingsBy_37 : decode cX5_goingsBy 37 = .ok (.iload 4, 2) := dk_21 4 (dk_at dksX5_goingsBy_1 15 rfl rfl)
theorem dX5_goingsBy_39 : decode cX5_goingsBy 39 = .ok (.bipush 100, 2) := dk_16 100 (dk_at dksX5_goingsBy_1 17 rfl rfl)
theorem dX5_goingsBy_41 : decode cX5_goingsBy 41 = .ok (.isub, 1) := dk_100 (dk_at dksX5_goingsBy_1 19 rfl rfl)
theorem dX5_goingsBy_42 : decode cX5_goingsBy 42 = .ok (.invokestatic 223, 3) := dk_184 0 223 (dk_at dksX5_goingsBy_1 20 rfl rfl)
theorem dX5_goingsBy_45 : decode cX5_goingsBy 45 = .ok (.ifCond .eq 26, 3) := dk_153 0 26 (dk_at dksX5_goingsBy_2 0 rfl rfl)
theorem dX5_goingsBy_48 : decode cX5_goingsBy 48 = .ok (.iconst 1, 1) := dk_4 (dk_at dksX5_goingsBy_2 3 rfl rfl)
theorem dX5_goingsBy_49 : decode cX5_goingsBy 49 = .ok (.aload_n 0, 1) := dk_42 (dk_at dksX5_goingsBy_2 4 rfl rfl)
theorem dX5_goingsBy_50 : decode cX5_goingsBy 50 = .ok (.getfield 60, 3) := dk_180 0 60 (dk_at dksX5_goingsBy_2 5 rfl rfl)
theorem dX5_goingsBy_53 : decode cX5_goingsBy 53 = .ok (.aload_n 0, 1) := dk_42 (dk_at dksX5_goingsBy_2 8 rfl rfl)
theorem dX5_goingsBy_54 : decode cX5_goingsBy 54 = .ok (.iload_n 1, 1) := dk_27 (dk_at dksX5_goingsBy_2 9 rfl rfl)
theorem dX5_goingsBy_55 : decode cX5_goingsBy 55 = .ok (.iconst 1, 1) := dk_4 (dk_at dksX5_goingsBy_2 10 rfl rfl)
theorem dX5_goingsBy_56 : decode cX5_goingsBy 56 = .ok (.iadd, 1) := dk_96 (dk_at dksX5_goingsBy_2 11 rfl rfl)
theorem dX5_goingsBy_57 : decode cX5_goingsBy 57 = .ok (.iload 4, 2) := dk_21 4 (dk_at dksX5_goingsBy_2 12 rfl rfl)
theorem dX5_goingsBy_59 : decode cX5_goingsBy 59 = .ok (.bipush 100, 2) := dk_16 100 (dk_at dksX5_goingsBy_2 14 rfl rfl)
theorem dX5_goingsBy_61 : decode cX5_goingsBy 61 = .ok (.isub, 1) := dk_100 (dk_at dksX5_goingsBy_2 16 rfl rfl)
theorem dX5_goingsBy_62 : decode cX5_goingsBy 62 = .ok (.iload_n 3, 1) := dk_29 (dk_at dksX5_goingsBy_2 17 rfl rfl)
theorem dX5_goingsBy_63 : decode cX5_goingsBy 63 = .ok (.invokevirtual 332, 3) := dk_182 1 76 (dk_at dksX5_goingsBy_2 18 rfl rfl)
theorem dX5_goingsBy_66 : decode cX5_goingsBy 66 = .ok (.iaload, 1) := dk_46 (dk_at dksX5_goingsBy_2 21 rfl rfl)
theorem dX5_goingsBy_67 : decode cX5_goingsBy 67 = .ok (.iadd, 1) := dk_96 (dk_at dksX5_goingsBy_2 22 rfl rfl)
theorem dX5_goingsBy_68 : decode cX5_goingsBy 68 = .ok (.goto 6, 3) := dk_167 0 6 (dk_at dksX5_goingsBy_3 0 rfl rfl)
theorem dX5_goingsBy_71 : decode cX5_goingsBy 71 = .ok (.sipush 1000, 3) := dk_17 3 232 (dk_at dksX5_goingsBy_3 3 rfl rfl)
theorem dX5_goingsBy_74 : decode cX5_goingsBy 74 = .ok (.ireturn, 1) := dk_172 (dk_at dksX5_goingsBy_3 6 rfl rfl)
theorem dX5_goingsBy_75 : decode cX5_goingsBy 75 = .ok (.aload_n 0, 1) := dk_42 (dk_at dksX5_goingsBy_3 7 rfl rfl)
theorem dX5_goingsBy_76 : decode cX5_goingsBy 76 = .ok (.getfield 60, 3) := dk_180 0 60 (dk_at dksX5_goingsBy_3 8 rfl rfl)
theorem dX5_goingsBy_79 : decode cX5_goingsBy 79 = .ok (.aload_n 0, 1) := dk_42 (dk_at dksX5_goingsBy_3 11 rfl rfl)
theorem dX5_goingsBy_80 : decode cX5_goingsBy 80 = .ok (.iload_n 1, 1) := dk_27 (dk_at dksX5_goingsBy_3 12 rfl rfl)
theorem dX5_goingsBy_81 : decode cX5_goingsBy 81 = .ok (.iconst 1, 1) := dk_4 (dk_at dksX5_goingsBy_3 13 rfl rfl)
theorem dX5_goingsBy_82 : decode cX5_goingsBy 82 = .ok (.iadd, 1) := dk_96 (dk_at dksX5_goingsBy_3 14 rfl rfl)
theorem dX5_goingsBy_83 : decode cX5_goingsBy 83 = .ok (.iload_n 2, 1) := dk_28 (dk_at dksX5_goingsBy_3 15 rfl rfl)
theorem dX5_goingsBy_84 : decode cX5_goingsBy 84 = .ok (.aload_n 0, 1) := dk_42 (dk_at dksX5_goingsBy_3 16 rfl rfl)
theorem dX5_goingsBy_85 : decode cX5_goingsBy 85 = .ok (.iload_n 3, 1) := dk_29 (dk_at dksX5_goingsBy_3 17 rfl rfl)
theorem dX5_goingsBy_86 : decode cX5_goingsBy 86 = .ok (.iload_n 1, 1) := dk_27 (dk_at dksX5_goingsBy_3 18 rfl rfl)
theorem dX5_goingsBy_87 : decode cX5_goingsBy 87 = .ok (.iload_n 2, 1) := dk_28 (dk_at dksX5_goingsBy_3 19 rfl rfl)
theorem dX5_goingsBy_88 : decode cX5_goingsBy 88 = .ok (.iload 4, 2) := dk_21 4 (dk_at dksX5_goingsBy_3 20 rfl rfl)
theorem dX5_goingsBy_90 : decode cX5_goingsBy 90 = .ok (.sipush 200, 3) := dk_17 0 200 (dk_at dksX5_goingsBy_4 0 rfl rfl)
theorem dX5_goingsBy_93 : decode cX5_goingsBy 93 = .ok (.isub, 1) := dk_100 (dk_at dksX5_goingsBy_4 3 rfl rfl)
theorem dX5_goingsBy_94 : decode cX5_goingsBy 94 = .ok (.invokevirtual 335, 3) := dk_182 1 79 (dk_at dksX5_goingsBy_4 4 rfl rfl)
theorem dX5_goingsBy_97 : decode cX5_goingsBy 97 = .ok (.invokevirtual 332, 3) := dk_182 1 76 (dk_at dksX5_goingsBy_4 7 rfl rfl)
theorem dX5_goingsBy_100 : decode cX5_goingsBy 100 = .ok (.iaload, 1) := dk_46 (dk_at dksX5_goingsBy_4 10 rfl rfl)
theorem dX5_goingsBy_101 : decode cX5_goingsBy 101 = .ok (.ireturn, 1) := dk_172 (dk_at dksX5_goingsBy_4 11 rfl rfl)
abbrev cX5_slot : ByteArray := prog_26_method_76_code
def yX5_slot : MethodName := ⟨RX5, "slot", "(III)I"⟩
def dkwX5_slot_0 : List UInt8 := [27, 16, 8, 104, 28, 96, 17, 1, 0, 104, 29, 96, 172]
abbrev dktX5_slot_0 : List UInt8 := dkwX5_slot_0 ++ []
theorem dksX5_slot_0 : cX5_slot.data.toList.drop 0 = dktX5_slot_0 := by decide +kernel
theorem dX5_slot_0 : decode cX5_slot 0 = .ok (.iload_n 1, 1) := dk_27 (dk_at dksX5_slot_0 0 rfl rfl)
theorem dX5_slot_1 : decode cX5_slot 1 = .ok (.bipush 8, 2) := dk_16 8 (dk_at dksX5_slot_0 1 rfl rfl)
theorem dX5_slot_3 : decode cX5_slot 3 = .ok (.imul, 1) := dk_104 (dk_at dksX5_slot_0 3 rfl rfl)
theorem dX5_slot_4 : decode cX5_slot 4 = .ok (.iload_n 2, 1) := dk_28 (dk_at dksX5_slot_0 4 rfl rfl)
theorem dX5_slot_5 : decode cX5_slot 5 = .ok (.iadd, 1) := dk_96 (dk_at dksX5_slot_0 5 rfl rfl)
theorem dX5_slot_6 : decode cX5_slot 6 = .ok (.sipush 256, 3) := dk_17 1 0 (dk_at dksX5_slot_0 6 rfl rfl)
theorem dX5_slot_9 : decode cX5_slot 9 = .ok (.imul, 1) := dk_104 (dk_at dksX5_slot_0 9 rfl rfl)
theorem dX5_slot_10 : decode cX5_slot 10 = .ok (.iload_n 3, 1) := dk_29 (dk_at dksX5_slot_0 10 rfl rfl)
theorem dX5_slot_11 : decode cX5_slot 11 = .ok (.iadd, 1) := dk_96 (dk_at dksX5_slot_0 11 rfl rfl)
theorem dX5_slot_12 : decode cX5_slot 12 = .ok (.ireturn, 1) := dk_172 (dk_at dksX5_slot_0 12 rfl rfl)
abbrev cX5_after : ByteArray := prog_26_method_75_code
def yX5_after : MethodName := ⟨RX5, "after", "(IIII)I"⟩
def dkwX5_after_4 : List UInt8 := [120, 100, 54, 5, 132, 6, 1, 167, 255, 161, 21, 5, 172]
abbrev dktX5_after_4 : List UInt8 := dkwX5_after_4 ++ []
def dkwX5_after_3 : List UInt8 := [21, 7, 96, 46, 42, 21, 7, 3, 182, 1, 42, 184, 0, 187, 153, 0, 14, 21, 5, 4, 5, 21, 6, 104]
abbrev dktX5_after_3 : List UInt8 := dkwX5_after_3 ++ dktX5_after_4
def dkwX5_after_2 : List UInt8 := [160, 0, 52, 42, 180, 0, 33, 16, 42, 21, 7, 96, 46, 29, 160, 0, 38, 28, 42, 180, 0, 33, 16, 50]
abbrev dktX5_after_2 : List UInt8 := dkwX5_after_2 ++ dktX5_after_3
def dkwX5_after_1 : List UInt8 := [21, 5, 21, 6, 184, 1, 73, 158, 0, 67, 42, 180, 0, 33, 16, 34, 21, 7, 96, 46, 21, 4]
abbrev dktX5_after_1 : List UInt8 := dkwX5_after_1 ++ dktX5_after_2
def dkwX5_after_0 : List UInt8 := [27, 54, 5, 3, 54, 6, 21, 6, 42, 180, 1, 70, 162, 0, 92, 42, 180, 0, 63, 21, 6, 46, 54, 7]
abbrev dktX5_after_0 : List UInt8 := dkwX5_after_0 ++ dktX5_after_1
theorem dksX5_after_0 : cX5_after.data.toList.drop 0 = dktX5_after_0 := by decide +kernel
theorem dksX5_after_1 : cX5_after.data.toList.drop 24 = dktX5_after_1 := dk_seg dksX5_after_0 24 rfl rfl
theorem dksX5_after_2 : cX5_after.data.toList.drop 46 = dktX5_after_2 := dk_seg dksX5_after_1 22 rfl rfl
theorem dksX5_after_3 : cX5_after.data.toList.drop 70 = dktX5_after_3 := dk_seg dksX5_after_2 24 rfl rfl
theorem dksX5_after_4 : cX5_after.data.toList.drop 94 = dktX5_after_4 := dk_seg dksX5_after_3 24 rfl rfl
theorem dX5_after_0 : decode cX5_after 0 = .ok (.iload_n 1, 1) := dk_27 (dk_at dksX5_after_0 0 rfl rfl)
theorem dX5_after_1 : decode cX5_after 1 = .ok (.istore 5, 2) := dk_54 5 (dk_at dksX5_after_0 1 rfl rfl)
theorem dX5_after_3 : decode cX5_after 3 = .ok (.iconst 0, 1) := dk_3 (dk_at dksX5_after_0 3 rfl rfl)
theorem dX5_after_4 : decode cX5_after 4 = .ok (.istore 6, 2) := dk_54 6 (dk_at dksX5_after_0 4 rfl rfl)
theorem dX5_after_6 : decode cX5_after 6 = .ok (.iload 6, 2) := dk_21 6 (dk_at dksX5_after_0 6 rfl rfl)
theorem dX5_after_8 : decode cX5_after 8 = .ok (.aload_n 0, 1) := dk_42 (dk_at dksX5_after_0 8 rfl rfl)
theorem dX5_after_9 : decode cX5_after 9 = .ok (.getfield 326, 3) := dk_180 1 70 (dk_at dksX5_after_0 9 rfl rfl)
theorem dX5_after_12 : decode cX5_after 12 = .ok (.if_icmp .ge 92, 3) := dk_162 0 92 (dk_at dksX5_after_0 12 rfl rfl)
theorem dX5_after_15 : decode cX5_after 15 = .ok (.aload_n 0, 1) := dk_42 (dk_at dksX5_after_0 15 rfl rfl)
theorem dX5_after_16 : decode cX5_after 16 = .ok (.getfield 63, 3) := dk_180 0 63 (dk_at dksX5_after_0 16 rfl rfl)
theorem dX5_after_19 : decode cX5_after 19 = .ok (.iload 6, 2) := dk_21 6 (dk_at dksX5_after_0 19 rfl rfl)
theorem dX5_after_21 : decode cX5_after 21 = .ok (.iaload, 1) := dk_46 (dk_at dksX5_after_0 21 rfl rfl)
theorem dX5_after_22 : decode cX5_after 22 = .ok (.istore 7, 2) := dk_54 7 (dk_at dksX5_after_0 22 rfl rfl)
theorem dX5_after_24 : decode cX5_after 24 = .ok (.iload 5, 2) := dk_21 5 (dk_at dksX5_after_1 0 rfl rfl)
theorem dX5_after_26 : decode cX5_after 26 = .ok (.iload 6, 2) := dk_21 6 (dk_at dksX5_after_1 2 rfl rfl)
theorem dX5_after_28 : decode cX5_after 28 = .ok (.invokestatic 329, 3) := dk_184 1 73 (dk_at dksX5_after_1 4 rfl rfl)
theorem dX5_after_31 : decode cX5_after 31 = .ok (.ifCond .le 67, 3) := dk_158 0 67 (dk_at dksX5_after_1 7 rfl rfl)
theorem dX5_after_34 : decode cX5_after 34 = .ok (.aload_n 0, 1) := dk_42 (dk_at dksX5_after_1 10 rfl rfl)
theorem dX5_after_35 : decode cX5_after 35 = .ok (.getfield 33, 3) := dk_180 0 33 (dk_at dksX5_after_1 11 rfl rfl)
theorem dX5_after_38 : decode cX5_after 38 = .ok (.bipush 34, 2) := dk_16 34 (dk_at dksX5_after_1 14 rfl rfl)
theorem dX5_after_40 : decode cX5_after 40 = .ok (.iload 7, 2) := dk_21 7 (dk_at dksX5_after_1 16 rfl rfl)
theorem dX5_after_42 : decode cX5_after 42 = .ok (.iadd, 1) := dk_96 (dk_at dksX5_after_1 18 rfl rfl)
theorem dX5_after_43 : decode cX5_after 43 = .ok (.iaload, 1) := dk_46 (dk_at dksX5_after_1 19 rfl rfl)
theorem dX5_after_44 : decode cX5_after 44 = .ok (.iload 4, 2) := dk_21 4 (dk_at dksX5_after_1 20 rfl rfl)
theorem dX5_after_46 : decode cX5_after 46 = .ok (.if_icmp .ne 52, 3) := dk_160 0 52 (dk_at dksX5_after_2 0 rfl rfl)
theorem dX5_after_49 : decode cX5_after 49 = .ok (.aload_n 0, 1) := dk_42 (dk_at dksX5_after_2 3 rfl rfl)
theorem dX5_after_50 : decode cX5_after 50 = .ok (.getfield 33, 3) := dk_180 0 33 (dk_at dksX5_after_2 4 rfl rfl)
theorem dX5_after_53 : decode cX5_after 53 = .ok (.bipush 42, 2) := dk_16 42 (dk_at dksX5_after_2 7 rfl rfl)
theorem dX5_after_55 : decode cX5_after 55 = .ok (.iload 7, 2) := dk_21 7 (dk_at dksX5_after_2 9 rfl rfl)
theorem dX5_after_57 : decode cX5_after 57 = .ok (.iadd, 1) := dk_96 (dk_at dksX5_after_2 11 rfl rfl)
theorem dX5_after_58 : decode cX5_after 58 = .ok (.iaload, 1) := dk_46 (dk_at dksX5_after_2 12 rfl rfl)
theorem dX5_after_59 : decode cX5_after 59 = .ok (.iload_n 3, 1) := dk_29 (dk_at dksX5_after_2 13 rfl rfl)
theorem dX5_after_60 : decode cX5_after 60 = .ok (.if_icmp .ne 38, 3) := dk_160 0 38 (dk_at dksX5_after_2 14 rfl rfl)
theorem dX5_after_63 : decode cX5_after 63 = .ok (.iload_n 2, 1) := dk_28 (dk_at dksX5_after_2 17 rfl rfl)
theorem dX5_after_64 : decode cX5_after 64 = .ok (.aload_n 0, 1) := dk_42 (dk_at dksX5_after_2 18 rfl rfl)
theorem dX5_after_65 : decode cX5_after 65 = .ok (.getfield 33, 3) := dk_180 0 33 (dk_at dksX5_after_2 19 rfl rfl)
theorem dX5_after_68 : decode cX5_after 68 = .ok (.bipush 50, 2) := dk_16 50 (dk_at dksX5_after_2 22 rfl rfl)
theorem dX5_after_70 : decode cX5_after 70 = .ok (.iload 7, 2) := dk_21 7 (dk_at dksX5_after_3 0 rfl rfl)
theorem dX5_after_72 : decode cX5_after 72 = .ok (.iadd, 1) := dk_96 (dk_at dksX5_after_3 2 rfl rfl)
theorem dX5_after_73 : decode cX5_after 73 = .ok (.iaload, 1) := dk_46 (dk_at dksX5_after_3 3 rfl rfl)
theorem dX5_after_74 : decode cX5_after 74 = .ok (.aload_n 0, 1) := dk_42 (dk_at dksX5_after_3 4 rfl rfl)
theorem dX5_after_75 : decode cX5_after 75 = .ok (.iload 7, 2) := dk_21 7 (dk_at dksX5_after_3 5 rfl rfl)
theorem dX5_after_77 : decode cX5_after 77 = .ok (.iconst 0, 1) := dk_3 (dk_at dksX5_after_3 7 rfl rfl)
theorem dX5_after_78 : decode cX5_after 78 = .ok (.invokevirtual 298, 3) := dk_182 1 42 (dk_at dksX5_after_3 8 rfl rfl)
theorem dX5_after_81 : decode cX5_after 81 = .ok (.invokestatic 187, 3) := dk_184 0 187 (dk_at dksX5_after_3 11 rfl rfl)
theorem dX5_after_84 : decode cX5_after 84 = .ok (.ifCond .eq 14, 3) := dk_153 0 14 (dk_at dksX5_after_3 14 rfl rfl)
theorem dX5_after_87 : decode cX5_after 87 = .ok (.iload 5, 2) := dk_21 5 (dk_at dksX5_after_3 17 rfl rfl)
theorem dX5_after_89 : decode cX5_after 89 = .ok (.iconst 1, 1) := dk_4 (dk_at dksX5_after_3 19 rfl rfl)
theorem dX5_after_90 : decode cX5_after 90 = .ok (.iconst 2, 1) := dk_5 (dk_at dksX5_after_3 20 rfl rfl)
theorem dX5_after_91 : decode cX5_after 91 = .ok (.iload 6, 2) := dk_21 6 (dk_at dksX5_after_3 21 rfl rfl)
theorem dX5_after_93 : decode cX5_after 93 = .ok (.imul, 1) := dk_104 (dk_at dksX5_after_3 23 rfl rfl)
theorem dX5_after_94 : decode cX5_after 94 = .ok (.ishl, 1) := dk_120 (dk_at dksX5_after_4 0 rfl rfl)
theorem dX5_after_95 : decode cX5_after 95 = .ok (.isub, 1) := dk_100 (dk_at dksX5_after_4 1 rfl rfl)
theorem dX5_after_96 : decode cX5_after 96 = .ok (.istore 5, 2) := dk_54 5 (dk_at dksX5_after_4 2 rfl rfl)
theorem dX5_after_98 : decode cX5_after 98 = .ok (.iinc 6 1, 3) := dk_132 6 1 (dk_at dksX5_after_4 4 rfl rfl)
theorem dX5_after_101 : decode cX5_after 101 = .ok (.goto (-95), 3) := dk_167 255 161 (dk_at dksX5_after_4 7 rfl rfl)
theorem dX5_after_104 : decode cX5_after 104 = .ok (.iload 5, 2) := dk_21 5 (dk_at dksX5_after_4 10 rfl rfl)
theorem dX5_after_106 : decode cX5_after 106 = .ok (.ireturn, 1) := dk_172 (dk_at dksX5_after_4 12 rfl rfl)
abbrev cX5_leftIn : ByteArray := prog_26_method_74_code
def yX5_leftIn : MethodName := ⟨RX5, "leftIn", "(II)I"⟩
def dkwX5_leftIn_0 : List UInt8 := [26, 5, 27, 104, 122, 6, 126, 172]
abbrev dktX5_leftIn_0 : List UInt8 := dkwX5_leftIn_0 ++ []
theorem dksX5_leftIn_0 : cX5_leftIn.data.toList.drop 0 = dktX5_leftIn_0 := by decide +kernel
theorem dX5_leftIn_0 : decode cX5_leftIn 0 = .ok (.iload_n 0, 1) := dk_26 (dk_at dksX5_leftIn_0 0 rfl rfl)
theorem dX5_leftIn_1 : decode cX5_leftIn 1 = .ok (.iconst 2, 1) := dk_5 (dk_at dksX5_leftIn_0 1 rfl rfl)
theorem dX5_leftIn_2 : decode cX5_leftIn 2 = .ok (.iload_n 1, 1) := dk_27 (dk_at dksX5_leftIn_0 2 rfl rfl)
theorem dX5_leftIn_3 : decode cX5_leftIn 3 = .ok (.imul, 1) := dk_104 (dk_at dksX5_leftIn_0 3 rfl rfl)
theorem dX5_leftIn_4 : decode cX5_leftIn 4 = .ok (.ishr, 1) := dk_122 (dk_at dksX5_leftIn_0 4 rfl rfl)
theorem dX5_leftIn_5 : decode cX5_leftIn 5 = .ok (.iconst 3, 1) := dk_6 (dk_at dksX5_leftIn_0 5 rfl rfl)
theorem dX5_leftIn_6 : decode cX5_leftIn 6 = .ok (.iand, 1) := dk_126 (dk_at dksX5_leftIn_0 6 rfl rfl)
theorem dX5_leftIn_7 : decode cX5_leftIn 7 = .ok (.ireturn, 1) := dk_172 (dk_at dksX5_leftIn_0 7 rfl rfl)
abbrev cX5_step : ByteArray := prog_26_method_83_code
def yX5_step : MethodName := ⟨RX5, "step", "(I)I"⟩
def dkwX5_step_1 : List UInt8 := [180, 0, 66, 27, 46, 167, 0, 4, 2, 172]
abbrev dktX5_step_1 : List UInt8 := dkwX5_step_1 ++ []
def dkwX5_step_0 : List UInt8 := [42, 3, 181, 0, 1, 27, 42, 180, 1, 101, 161, 0, 20, 27, 42, 180, 1, 104, 162, 0, 12, 42]
abbrev dktX5_step_0 : List UInt8 := dkwX5_step_0 ++ dktX5_step_1
theorem dksX5_step_0 : cX5_step.data.toList.drop 0 = dktX5_step_0 := by decide +kernel
theorem dksX5_step_1 : cX5_step.data.toList.drop 22 = dktX5_step_1 := dk_seg dksX5_step_0 22 rfl rfl
theorem dX5_step_0 : decode cX5_step 0 = .ok (.aload_n 0, 1) := dk_42 (dk_at dksX5_step_0 0 rfl rfl)
theorem dX5_step_1 : decode cX5_step 1 = .ok (.iconst 0, 1) := dk_3 (dk_at dksX5_step_0 1 rfl rfl)
theorem dX5_step_2 : decode cX5_step 2 = .ok (.putfield 1, 3) := dk_181 0 1 (dk_at dksX5_step_0 2 rfl rfl)
theorem dX5_step_5 : decode cX5_step 5 = .ok (.iload_n 1, 1) := dk_27 (dk_at dksX5_step_0 5 rfl rfl)
theorem dX5_step_6 : decode cX5_step 6 = .ok (.aload_n 0, 1) := dk_42 (dk_at dksX5_step_0 6 rfl rfl)
theorem dX5_step_7 : decode cX5_step 7 = .ok (.getfield 357, 3) := dk_180 1 101 (dk_at dksX5_step_0 7 rfl rfl)
theorem dX5_step_10 : decode cX5_step 10 = .ok (.if_icmp .lt 20, 3) := dk_161 0 20 (dk_at dksX5_step_0 10 rfl rfl)
theorem dX5_step_13 : decode cX5_step 13 = .ok (.iload_n 1, 1) := dk_27 (dk_at dksX5_step_0 13 rfl rfl)
theorem dX5_step_14 : decode cX5_step 14 = .ok (.aload_n 0, 1) := dk_42 (dk_at dksX5_step_0 14 rfl rfl)
theorem dX5_step_15 : decode cX5_step 15 = .ok (.getfield 360, 3) := dk_180 1 104 (dk_at dksX5_step_0 15 rfl rfl)
theorem dX5_step_18 : decode cX5_step 18 = .ok (.if_icmp .ge 12, 3) := dk_162 0 12 (dk_at dksX5_step_0 18 rfl rfl)
theorem dX5_step_21 : decode cX5_step 21 = .ok (.aload_n 0, 1) := dk_42 (dk_at dksX5_step_0 21 rfl rfl)
theorem dX5_step_22 : decode cX5_step 22 = .ok (.getfield 66, 3) := dk_180 0 66 (dk_at dksX5_step_1 0 rfl rfl)
theorem dX5_step_25 : decode cX5_step 25 = .ok (.iload_n 1, 1) := dk_27 (dk_at dksX5_step_1 3 rfl rfl)
theorem dX5_step_26 : decode cX5_step 26 = .ok (.iaload, 1) := dk_46 (dk_at dksX5_step_1 4 rfl rfl)
theorem dX5_step_27 : decode cX5_step 27 = .ok (.goto 4, 3) := dk_167 0 4 (dk_at dksX5_step_1 5 rfl rfl)
theorem dX5_step_30 : decode cX5_step 30 = .ok (.iconst (-1), 1) := dk_2 (dk_at dksX5_step_1 8 rfl rfl)
theorem dX5_step_31 : decode cX5_step 31 = .ok (.ireturn, 1) := dk_172 (dk_at dksX5_step_1 9 rfl rfl)
abbrev cX5_quarrel : ByteArray := prog_26_method_84_code
def yX5_quarrel : MethodName := ⟨RX5, "quarrel", "(I)I"⟩
def dkwX5_quarrel_3 : List UInt8 := [161, 0, 6, 21, 4, 62, 132, 4, 1, 167, 255, 203, 29, 172]
abbrev dktX5_quarrel_3 : List UInt8 := dkwX5_quarrel_3 ++ []
def dkwX5_quarrel_2 : List UInt8 := [184, 1, 92, 29, 184, 1, 92, 161, 0, 6, 167, 0, 19, 42, 27, 21, 4, 182, 1, 98, 17, 3, 232]
abbrev dktX5_quarrel_2 : List UInt8 := dkwX5_quarrel_2 ++ dktX5_quarrel_3
def dkwX5_quarrel_1 : List UInt8 := [54, 4, 21, 4, 28, 163, 0, 53, 21, 4, 28, 2, 130, 126, 154, 0, 38, 29, 158, 0, 18, 21, 4]
abbrev dktX5_quarrel_1 : List UInt8 := dkwX5_quarrel_1 ++ dktX5_quarrel_2
def dkwX5_quarrel_0 : List UInt8 := [42, 3, 181, 0, 1, 42, 27, 182, 1, 95, 154, 0, 5, 2, 172, 42, 27, 182, 1, 89, 61, 3, 62, 4]
abbrev dktX5_quarrel_0 : List UInt8 := dkwX5_quarrel_0 ++ dktX5_quarrel_1
theorem dksX5_quarrel_0 : cX5_quarrel.data.toList.drop 0 = dktX5_quarrel_0 := by decide +kernel
theorem dksX5_quarrel_1 : cX5_quarrel.data.toList.drop 24 = dktX5_quarrel_1 := dk_seg dksX5_quarrel_0 24 rfl rfl
theorem dksX5_quarrel_2 : cX5_quarrel.data.toList.drop 47 = dktX5_quarrel_2 := dk_seg dksX5_quarrel_1 23 rfl rfl
theorem dksX5_quarrel_3 : cX5_quarrel.data.toList.drop 70 = dktX5_quarrel_3 := dk_seg dksX5_quarrel_2 23 rfl rfl
theorem dX5_quarrel_0 : decode cX5_quarrel 0 = .ok (.aload_n 0, 1) := dk_42 (dk_at dksX5_quarrel_0 0 rfl rfl)
theorem dX5_quarrel_1 : decode cX5_quarrel 1 = .ok (.iconst 0, 1) := dk_3 (dk_at dksX5_quarrel_0 1 rfl rfl)
theorem dX5_quarrel_2 : decode cX5_quarrel 2 = .ok (.putfield 1, 3) := dk_181 0 1 (dk_at dksX5_quarrel_0 2 rfl rfl)
theorem dX5_quarrel_5 : decode cX5_quarrel 5 = .ok (.aload_n 0, 1) := dk_42 (dk_at dksX5_quarrel_0 5 rfl rfl)
theorem dX5_quarrel_6 : decode cX5_quarrel 6 = .ok (.iload_n 1, 1) := dk_27 (dk_at dksX5_quarrel_0 6 rfl rfl)
theorem dX5_quarrel_7 : decode cX5_quarrel 7 = .ok (.invokevirtual 351, 3) := dk_182 1 95 (dk_at dksX5_quarrel_0 7 rfl rfl)
theorem dX5_quarrel_10 : decode cX5_quarrel 10 = .ok (.ifCond .ne 5, 3) := dk_154 0 5 (dk_at dksX5_quarrel_0 10 rfl rfl)
theorem dX5_quarrel_13 : decode cX5_quarrel 13 = .ok (.iconst (-1), 1) := dk_2 (dk_at dksX5_quarrel_0 13 rfl rfl)
theorem dX5_quarrel_14 : decode cX5_quarrel 14 = .ok (.ireturn, 1) := dk_172 (dk_at dksX5_quarrel_0 14 rfl rfl)
theorem dX5_quarrel_15 : decode cX5_quarrel 15 = .ok (.aload_n 0, 1) := dk_42 (dk_at dksX5_quarrel_0 15 rfl rfl)
theorem dX5_quarrel_16 : decode cX5_quarrel 16 = .ok (.iload_n 1, 1) := dk_27 (dk_at dksX5_quarrel_0 16 rfl rfl)
theorem dX5_quarrel_17 : decode cX5_quarrel 17 = .ok (.invokevirtual 345, 3) := dk_182 1 89 (dk_at dksX5_quarrel_0 17 rfl rfl)
theorem dX5_quarrel_20 : decode cX5_quarrel 20 = .ok (.istore_n 2, 1) := dk_61 (dk_at dksX5_quarrel_0 20 rfl rfl)
theorem dX5_quarrel_21 : decode cX5_quarrel 21 = .ok (.iconst 0, 1) := dk_3 (dk_at dksX5_quarrel_0 21 rfl rfl)
theorem dX5_quarrel_22 : decode cX5_quarrel 22 = .ok (.istore_n 3, 1) := dk_62 (dk_at dksX5_quarrel_0 22 rfl rfl)
theorem dX5_quarrel_23 : decode cX5_quarrel 23 = .ok (.iconst 1, 1) := dk_4 (dk_at dksX5_quarrel_0 23 rfl rfl)
theorem dX5_quarrel_24 : decode cX5_quarrel 24 = .ok (.istore 4, 2) := dk_54 4 (dk_at dksX5_quarrel_1 0 rfl rfl)
theorem dX5_quarrel_26 : decode cX5_quarrel 26 = .ok (.iload 4, 2) := dk_21 4 (dk_at dksX5_quarrel_1 2 rfl rfl)
theorem dX5_quarrel_28 : decode cX5_quarrel 28 = .ok (.iload_n 2, 1) := dk_28 (dk_at dksX5_quarrel_1 4 rfl rfl)
theorem dX5_quarrel_29 : decode cX5_quarrel 29 = .ok (.if_icmp .gt 53, 3) := dk_163 0 53 (dk_at dksX5_quarrel_1 5 rfl rfl)
theorem dX5_quarrel_32 : decode cX5_quarrel 32 = .ok (.iload 4, 2) := dk_21 4 (dk_at dksX5_quarrel_1 8 rfl rfl)
theorem dX5_quarrel_34 : decode cX5_quarrel 34 = .ok (.iload_n 2, 1) := dk_28 (dk_at dksX5_quarrel_1 10 rfl rfl)
theorem dX5_quarrel_35 : decode cX5_quarrel 35 = .ok (.iconst (-1), 1) := dk_2 (dk_at dksX5_quarrel_1 11 rfl rfl)
theorem dX5_quarrel_36 : decode cX5_quarrel 36 = .ok (.ixor, 1) := dk_130 (dk_at dksX5_quarrel_1 12 rfl rfl)
theorem dX5_quarrel_37 : decode cX5_quarrel 37 = .ok (.iand, 1) := dk_126 (dk_at dksX5_quarrel_1 13 rfl rfl)
theorem dX5_quarrel_38 : decode cX5_quarrel 38 = .ok (.ifCond .ne 38, 3) := dk_154 0 38 (dk_at dksX5_quarrel_1 14 rfl rfl)
theorem dX5_quarrel_41 : decode cX5_quarrel 41 = .ok (.iload_n 3, 1) := dk_29 (dk_at dksX5_quarrel_1 17 rfl rfl)
theorem dX5_quarrel_42 : decode cX5_quarrel 42 = .ok (.ifCond .le 18, 3) := dk_158 0 18 (dk_at dksX5_quarrel_1 18 rfl rfl)
theorem dX5_quarrel_45 : decode cX5_quarrel 45 = .ok (.iload 4, 2) := dk_21 4 (dk_at dksX5_quarrel_1 21 rfl rfl)
theorem dX5_quarrel_47 : decode cX5_quarrel 47 = .ok (.invokestatic 348, 3) := dk_184 1 92 (dk_at dksX5_quarrel_2 0 rfl rfl)
theorem dX5_quarrel_50 : decode cX5_quarrel 50 = .ok (.iload_n 3, 1) := dk_29 (dk_at dksX5_quarrel_2 3 rfl rfl)
theorem dX5_quarrel_51 : decode cX5_quarrel 51 = .ok (.invokestatic 348, 3) := dk_184 1 92 (dk_at dksX5_quarrel_2 4 rfl rfl)
theorem dX5_quarrel_54 : decode cX5_quarrel 54 = .ok (.if_icmp .lt 6, 3) := dk_161 0 6 (dk_at dksX5_quarrel_2 7 rfl rfl)
theorem dX5_quarrel_57 : decode cX5_quarrel 57 = .ok (.goto 19, 3) := dk_167 0 19 (dk_at dksX5_quarrel_2 10 rfl rfl)
theorem dX5_quarrel_60 : decode cX5_quarrel 60 = .ok (.aload_n 0, 1) := dk_42 (dk_at dksX5_quarrel_2 13 rfl rfl)
theorem dX5_quarrel_61 : decode cX5_quarrel 61 = .ok (.iload_n 1, 1) := dk_27 (dk_at dksX5_quarrel_2 14 rfl rfl)
theorem dX5_quarrel_62 : decode cX5_quarrel 62 = .ok (.iload 4, 2) := dk_21 4 (dk_at dksX5_quarrel_2 15 rfl rfl)
theorem dX5_quarrel_64 : decode cX5_quarrel 64 = .ok (.invokevirtual 354, 3) := dk_182 1 98 (dk_at dksX5_quarrel_2 17 rfl rfl)
theorem dX5_quarrel_67 : decode cX5_quarrel 67 = .ok (.sipush 1000, 3) := dk_17 3 232 (dk_at dksX5_quarrel_2 20 rfl rfl)
theorem dX5_quarrel_70 : decode cX5_quarrel 70 = .ok (.if_icmp .lt 6, 3) := dk_161 0 6 (dk_at dksX5_quarrel_3 0 rfl rfl)
theorem dX5_quarrel_73 : decode cX5_quarrel 73 = .ok (.iload 4, 2) := dk_21 4 (dk_at dksX5_quarrel_3 3 rfl rfl)
theorem dX5_quarrel_75 : decode cX5_quarrel 75 = .ok (.istore_n 3, 1) := dk_62 (dk_at dksX5_quarrel_3 5 rfl rfl)
theorem dX5_quarrel_76 : decode cX5_quarrel 76 = .ok (.iinc 4 1, 3) := dk_132 4 1 (dk_at dksX5_quarrel_3 6 rfl rfl)
theorem dX5_quarrel_79 : decode cX5_quarrel 79 = .ok (.goto (-53), 3) := dk_167 255 203 (dk_at dksX5_quarrel_3 9 rfl rfl)
theorem dX5_quarrel_82 : decode cX5_quarrel 82 = .ok (.iload_n 3, 1) := dk_29 (dk_at dksX5_quarrel_3 12 rfl rfl)
theorem dX5_quarrel_83 : decode cX5_quarrel 83 = .ok (.ireturn, 1) := dk_172 (dk_at dksX5_quarrel_3 13 rfl rfl)
abbrev cX5_chain : ByteArray := prog_26_method_86_code
def yX5_chain : MethodName := ⟨RX5, "chain", "(I)I"⟩
def dkwX5_chain_0 : List UInt8 := [42, 3, 181, 0, 1, 42, 27, 182, 0, 244, 153, 0, 11, 42, 27, 182, 1, 107, 167, 0, 4, 2, 172]
abbrev dktX5_chain_0 : List UInt8 := dkwX5_chain_0 ++ []
theorem dksX5_chain_0 : cX5_chain.data.toList.drop 0 = dktX5_chain_0 := by decide +kernel
theorem dX5_chain_0 : decode cX5_chain 0 = .ok (.aload_n 0, 1) := dk_42 (dk_at dksX5_chain_0 0 rfl rfl)
theorem dX5_chain_1 : decode cX5_chain 1 = .ok (.iconst 0, 1) := dk_3 (dk_at dksX5_chain_0 1 rfl rfl)
theorem dX5_chain_2 : decode cX5_chain 2 = .ok (.putfield 1, 3) := dk_181 0 1 (dk_at dksX5_chain_0 2 rfl rfl)
theorem dX5_chain_5 : decode cX5_chain 5 = .ok (.aload_n 0, 1) := dk_42 (dk_at dksX5_chain_0 5 rfl rfl)
theorem dX5_chain_6 : decode cX5_chain 6 = .ok (.iload_n 1, 1) := dk_27 (dk_at dksX5_chain_0 6 rfl rfl)
theorem dX5_chain_7 : decode cX5_chain 7 = .ok (.invokevirtual 244, 3) := dk_182 0 244 (dk_at dksX5_chain_0 7 rfl rfl)
theorem dX5_chain_10 : decode cX5_chain 10 = .ok (.ifCond .eq 11, 3) := dk_153 0 11 (dk_at dksX5_chain_0 10 rfl rfl)
theorem dX5_chain_13 : decode cX5_chain 13 = .ok (.aload_n 0, 1) := dk_42 (dk_at dksX5_chain_0 13 rfl rfl)
theorem dX5_chain_14 : decode cX5_chain 14 = .ok (.iload_n 1, 1) := dk_27 (dk_at dksX5_chain_0 14 rfl rfl)
theorem dX5_chain_15 : decode cX5_chain 15 = .ok (.invokevirtual 363, 3) := dk_182 1 107 (dk_at dksX5_chain_0 15 rfl rfl)
theorem dX5_chain_18 : decode cX5_chain 18 = .ok (.goto 4, 3) := dk_167 0 4 (dk_at dksX5_chain_0 18 rfl rfl)
theorem dX5_chain_21 : decode cX5_chain 21 = .ok (.iconst (-1), 1) := dk_2 (dk_at dksX5_chain_0 21 rfl rfl)
theorem dX5_chain_22 : decode cX5_chain 22 = .ok (.ireturn, 1) := dk_172 (dk_at dksX5_chain_0 22 rfl rfl)
abbrev cX5_chainOf : ByteArray := prog_26_method_85_code
def yX5_chainOf : MethodName := ⟨RX5, "chainOf", "(I)I"⟩
def dkwX5_chainOf_3 : List UInt8 := [28, 172]
abbrev dktX5_chainOf_3 : List UInt8 := dkwX5_chainOf_3 ++ []
def dkwX5_chainOf_2 : List UInt8 := [180, 0, 33, 16, 90, 21, 4, 96, 46, 120, 128, 61, 132, 4, 1, 167, 255, 209, 132, 3, 1, 167, 255, 194]
abbrev dktX5_chainOf_2 : List UInt8 := dkwX5_chainOf_2 ++ dktX5_chainOf_3
def dkwX5_chainOf_1 : List UInt8 := [162, 0, 41, 28, 42, 180, 0, 33, 16, 98, 21, 4, 96, 46, 184, 0, 223, 153, 0, 18, 28, 4, 42]
abbrev dktX5_chainOf_1 : List UInt8 := dkwX5_chainOf_1 ++ dktX5_chainOf_2
def dkwX5_chainOf_0 : List UInt8 := [4, 27, 120, 61, 3, 62, 29, 16, 8, 162, 0, 62, 3, 54, 4, 21, 4, 42, 180, 0, 33, 16, 7, 46]
abbrev dktX5_chainOf_0 : List UInt8 := dkwX5_chainOf_0 ++ dktX5_chainOf_1
theorem dksX5_chainOf_0 : cX5_chainOf.data.toList.drop 0 = dktX5_chainOf_0 := by decide +kernel
theorem dksX5_chainOf_1 : cX5_chainOf.data.toList.drop 24 = dktX5_chainOf_1 := dk_seg dksX5_chainOf_0 24 rfl rfl
theorem dksX5_chainOf_2 : cX5_chainOf.data.toList.drop 47 = dktX5_chainOf_2 := dk_seg dksX5_chainOf_1 23 rfl rfl
theorem dksX5_chainOf_3 : cX5_chainOf.data.toList.drop 71 = dktX5_chainOf_3 := dk_seg dksX5_chainOf_2 24 rfl rfl
theorem dX5_chainOf_0 : decode cX5_chainOf 0 = .ok (.iconst 1, 1) := dk_4 (dk_at dksX5_chainOf_0 0 rfl rfl)
theorem dX5_chainOf_1 : decode cX5_chainOf 1 = .ok (.iload_n 1, 1) := dk_27 (dk_at dksX5_chainOf_0 1 rfl rfl)
theorem dX5_chainOf_2 : decode cX5_chainOf 2 = .ok (.ishl, 1) := dk_120 (dk_at dksX5_chainOf_0 2 rfl rfl)
theorem dX5_chainOf_3 : decode cX5_chainOf 3 = .ok (.istore_n 2, 1) := dk_61 (dk_at dksX5_chainOf_0 3 rfl rfl)
theorem dX5_chainOf_4 : decode cX5_chainOf 4 = .ok (.iconst 0, 1) := dk_3 (dk_at dksX5_chainOf_0 4 rfl rfl)
theorem dX5_chainOf_5 : decode cX5_chainOf 5 = .ok (.istore_n 3, 1) := dk_62 (dk_at dksX5_chainOf_0 5 rfl rfl)
theorem dX5_chainOf_6 : decode cX5_chainOf 6 = .ok (.iload_n 3, 1) := dk_29 (dk_at dksX5_chainOf_0 6 rfl rfl)
theorem dX5_chainOf_7 : decode cX5_chainOf 7 = .ok (.bipush 8, 2) := dk_16 8 (dk_at dksX5_chainOf_0 7 rfl rfl)
theorem dX5_chainOf_9 : decode cX5_chainOf 9 = .ok (.if_icmp .ge 62, 3) := dk_162 0 62 (dk_at dksX5_chainOf_0 9 rfl rfl)
theorem dX5_chainOf_12 : decode cX5_chainOf 12 = .ok (.iconst 0, 1) := dk_3 (dk_at dksX5_chainOf_0 12 rfl rfl)
theorem dX5_chainOf_13 : decode cX5_chainOf 13 = .ok (.istore 4, 2) := dk_54 4 (dk_at dksX5_chainOf_0 13 rfl rfl)
theorem dX5_chainOf_15 : decode cX5_chainOf 15 = .ok (.iload 4, 2) := dk_21 4 (dk_at dksX5_chainOf_0 15 rfl rfl)
theorem dX5_chainOf_17 : decode cX5_chainOf 17 = .ok (.aload_n 0, 1) := dk_42 (dk_at dksX5_chainOf_0 17 rfl rfl)
theorem dX5_chainOf_18 : decode cX5_chainOf 18 = .ok (.getfield 33, 3) := dk_180 0 33 (dk_at dksX5_chainOf_0 18 rfl rfl)
theorem dX5_chainOf_21 : decode cX5_chainOf 21 = .ok (.bipush 7, 2) := dk_16 7 (dk_at dksX5_chainOf_0 21 rfl rfl)
theorem dX5_chainOf_23 : decode cX5_chainOf 23 = .ok (.iaload, 1) := dk_46 (dk_at dksX5_chainOf_0 23 rfl rfl)
theorem dX5_chainOf_24 : decode cX5_chainOf 24 = .ok (.if_icmp .ge 41, 3) := dk_162 0 41 (dk_at dksX5_chainOf_1 0 rfl rfl)
theorem dX5_chainOf_27 : decode cX5_chainOf 27 = .ok (.iload_n 2, 1) := dk_28 (dk_at dksX5_chainOf_1 3 rfl rfl)
theorem dX5_chainOf_28 : decode cX5_chainOf 28 = .ok (.aload_n 0, 1) := dk_42 (dk_at dksX5_chainOf_1 4 rfl rfl)
theorem dX5_chainOf_29 : decode cX5_chainOf 29 = .ok (.getfield 33, 3) := dk_180 0 33 (dk_at dksX5_chainOf_1 5 rfl rfl)
theorem dX5_chainOf_32 : decode cX5_chainOf 32 = .ok (.bipush 98, 2) := dk_16 98 (dk_at dksX5_chainOf_1 8 rfl rfl)
theorem dX5_chainOf_34 : decode cX5_chainOf 34 = .ok (.iload 4, 2) := dk_21 4 (dk_at dksX5_chainOf_1 10 rfl rfl)
theorem dX5_chainOf_36 : decode cX5_chainOf 36 = .ok (.iadd, 1) := dk_96 (dk_at dksX5_chainOf_1 12 rfl rfl)
theorem dX5_chainOf_37 : decode cX5_chainOf 37 = .ok (.iaload, 1) := dk_46 (dk_at dksX5_chainOf_1 13 rfl rfl)
theorem dX5_chainOf_38 : decode cX5_chainOf 38 = .ok (.invokestatic 223, 3) := dk_184 0 223 (dk_at dksX5_chainOf_1 14 rfl rfl)
theorem dX5_chainOf_41 : decode cX5_chainOf 41 = .ok (.ifCond .eq 18, 3) := dk_153 0 18 (dk_at dksX5_chainOf_1 17 rfl rfl)
theorem dX5_chainOf_44 : decode cX5_chainOf 44 = .ok (.iload_n 2, 1) := dk_28 (dk_at dksX5_chainOf_1 20 rfl rfl)
theorem dX5_chainOf_45 : decode cX5_chainOf 45 = .ok (.iconst 1, 1) := dk_4 (dk_at dksX5_chainOf_1 21 rfl rfl)
theorem dX5_chainOf_46 : decode cX5_chainOf 46 = .ok (.aload_n 0, 1) := dk_42 (dk_at dksX5_chainOf_1 22 rfl rfl)
theorem dX5_chainOf_47 : decode cX5_chainOf 47 = .ok (.getfield 33, 3) := dk_180 0 33 (dk_at dksX5_chainOf_2 0 rfl rfl)
theorem dX5_chainOf_50 : decode cX5_chainOf 50 = .ok (.bipush 90, 2) := dk_16 90 (dk_at dksX5_chainOf_2 3 rfl rfl)
theorem dX5_chainOf_52 : decode cX5_chainOf 52 = .ok (.iload 4, 2) := dk_21 4 (dk_at dksX5_chainOf_2 5 rfl rfl)
theorem dX5_chainOf_54 : decode cX5_chainOf 54 = .ok (.iadd, 1) := dk_96 (dk_at dksX5_chainOf_2 7 rfl rfl)
theorem dX5_chainOf_55 : decode cX5_chainOf 55 = .ok (.iaload, 1) := dk_46 (dk_at dksX5_chainOf_2 8 rfl rfl)
theorem dX5_chainOf_56 : decode cX5_chainOf 56 = .ok (.ishl, 1) := dk_120 (dk_at dksX5_chainOf_2 9 rfl rfl)
theorem dX5_chainOf_57 : decode cX5_chainOf 57 = .ok (.ior, 1) := dk_128 (dk_at dksX5_chainOf_2 10 rfl rfl)
theorem dX5_chainOf_58 : decode cX5_chainOf 58 = .ok (.istore_n 2, 1) := dk_61 (dk_at dksX5_chainOf_2 11 rfl rfl)
theorem dX5_chainOf_59 : decode cX5_chainOf 59 = .ok (.iinc 4 1, 3) := dk_132 4 1 (dk_at dksX5_chainOf_2 12 rfl rfl)
theorem dX5_chainOf_62 : decode cX5_chainOf 62 = .ok (.goto (-47), 3) := dk_167 255 209 (dk_at dksX5_chainOf_2 15 rfl rfl)
theorem dX5_chainOf_65 : decode cX5_chainOf 65 = .ok (.iinc 3 1, 3) := dk_132 3 1 (dk_at dksX5_chainOf_2 18 rfl rfl)
theorem dX5_chainOf_68 : decode cX5_chainOf 68 = .ok (.goto (-62), 3) := dk_167 255 194 (dk_at dksX5_chainOf_2 21 rfl rfl)
theorem dX5_chainOf_71 : decode cX5_chainOf 71 = .ok (.iload_n 2, 1) := dk_28 (dk_at dksX5_chainOf_3 0 rfl rfl)
theorem dX5_chainOf_72 : decode cX5_chainOf 72 = .ok (.ireturn, 1) := dk_172 (dk_at dksX5_chainOf_3 1 rfl rfl)
abbrev cX5_rings : ByteArray := prog_26_method_87_code
def yX5_rings : MethodName := ⟨RX5, "rings", "()I"⟩
def dkwX5_rings_3 : List UInt8 := [46, 120, 128, 128, 60, 132, 2, 1, 167, 255, 188, 27, 172]
abbrev dktX5_rings_3 : List UInt8 := dkwX5_rings_3 ++ []
def dkwX5_rings_2 : List UInt8 := [153, 0, 29, 27, 4, 42, 180, 0, 33, 16, 90, 28, 96, 46, 120, 4, 42, 180, 0, 33, 16, 98, 28, 96]
abbrev dktX5_rings_2 : List UInt8 := dkwX5_rings_2 ++ dktX5_rings_3
def dkwX5_rings_1 : List UInt8 := [180, 0, 33, 16, 90, 28, 96, 46, 182, 1, 107, 42, 180, 0, 33, 16, 98, 28, 96, 46, 184, 0, 223]
abbrev dktX5_rings_1 : List UInt8 := dkwX5_rings_1 ++ dktX5_rings_2
def dkwX5_rings_0 : List UInt8 := [42, 3, 181, 0, 1, 3, 60, 3, 61, 28, 42, 180, 0, 33, 16, 7, 46, 162, 0, 63, 42, 42]
abbrev dktX5_rings_0 : List UInt8 := dkwX5_rings_0 ++ dktX5_rings_1
theorem dksX5_rings_0 : cX5_rings.data.toList.drop 0 = dktX5_rings_0 := by decide +kernel
theorem dksX5_rings_1 : cX5_rings.data.toList.drop 22 = dktX5_rings_1 := dk_seg dksX5_rings_0 22 rfl rfl
theorem dksX5_rings_2 : cX5_rings.data.toList.drop 45 = dktX5_rings_2 := dk_seg dksX5_rings_1 23 rfl rfl
theorem dksX5_rings_3 : cX5_rings.data.toList.drop 69 = dktX5_rings_3 := dk_seg dksX5_rings_2 24 rfl rfl
theorem dX5_rings_0 : decode cX5_rings 0 = .ok (.aload_n 0, 1) := dk_42 (dk_at dksX5_rings_0 0 rfl rfl)
theorem dX5_rings_1 : decode cX5_rings 1 = .ok (.iconst 0, 1) := dk_3 (dk_at dksX5_rings_0 1 rfl rfl)
theorem dX5_rings_2 : decode cX5_rings 2 = .ok (.putfield 1, 3) := dk_181 0 1 (dk_at dksX5_rings_0 2 rfl rfl)
theorem dX5_rings_5 : decode cX5_rings 5 = .ok (.iconst 0, 1) := dk_3 (dk_at dksX5_rings_0 5 rfl rfl)
theorem dX5_rings_6 : decode cX5_rings 6 = .ok (.istore_n 1, 1) := dk_60 (dk_at dksX5_rings_0 6 rfl rfl)
theorem dX5_rings_7 : decode cX5_rings 7 = .ok (.iconst 0, 1) := dk_3 (dk_at dksX5_rings_0 7 rfl rfl)
theorem dX5_rings_8 : decode cX5_rings 8 = .ok (.istore_n 2, 1) := dk_61 (dk_at dksX5_rings_0 8 rfl rfl)
theorem dX5_rings_9 : decode cX5_rings 9 = .ok (.iload_n 2, 1) := dk_28 (dk_at dksX5_rings_0 9 rfl rfl)
theorem dX5_rings_10 : decode cX5_rings 10 = .ok (.aload_n 0, 1) := dk_42 (dk_at dksX5_rings_0 10 rfl rfl)
theorem dX5_rings_11 : decode cX5_rings 11 = .ok (.getfield 33, 3) := dk_180 0 33 (dk_at dksX5_rings_0 11 rfl rfl)
theorem dX5_rings_14 : decode cX5_rings 14 = .ok (.bipush 7, 2) := dk_16 7 (dk_at dksX5_rings_0 14 rfl rfl)
theorem dX5_rings_16 : decode cX5_rings 16 = .ok (.iaload, 1) := dk_46 (dk_at dksX5_rings_0 16 rfl rfl)
theorem dX5_rings_17 : decode cX5_rings 17 = .ok (.if_icmp .ge 63, 3) := dk_162 0 63 (dk_at dksX5_rings_0 17 rfl rfl)
theorem dX5_rings_20 : decode cX5_rings 20 = .ok (.aload_n 0, 1) := dk_42 (dk_at dksX5_rings_0 20 rfl rfl)
theorem dX5_rings_21 : decode cX5_rings 21 = .ok (.aload_n 0, 1) := dk_42 (dk_at dksX5_rings_0 21 rfl rfl)
theorem dX5_rings_22 : decode cX5_rings 22 = .ok (.getfield 33, 3) := dk_180 0 33 (dk_at dksX5_rings_1 0 rfl rfl)
theorem dX5_rings_25 : decode cX5_rings 25 = .ok (.bipush 90, 2) := dk_16 90 (dk_at dksX5_rings_1 3 rfl rfl)
theorem dX5_rings_27 : decode cX5_rings 27 = .ok (.iload_n 2, 1) := dk_28 (dk_at dksX5_rings_1 5 rfl rfl)
theorem dX5_rings_28 : decode cX5_rings 28 = .ok (.iadd, 1) := dk_96 (dk_at dksX5_rings_1 6 rfl rfl)
theorem dX5_rings_29 : decode cX5_rings 29 = .ok (.iaload, 1) := dk_46 (dk_at dksX5_rings_1 7 rfl rfl)
theorem dX5_rings_30 : decode cX5_rings 30 = .ok (.invokevirtual 363, 3) := dk_182 1 107 (dk_at dksX5_rings_1 8 rfl rfl)
theorem dX5_rings_33 : decode cX5_rings 33 = .ok (.aload_n 0, 1) := dk_42 (dk_at dksX5_rings_1 11 rfl rfl)
theorem dX5_rings_34 : decode cX5_rings 34 = .ok (.getfield 33, 3) := dk_180 0 33 (dk_at dksX5_rings_1 12 rfl rfl)
theorem dX5_rings_37 : decode cX5_rings 37 = .ok (.bipush 98, 2) := dk_16 98 (dk_at dksX5_rings_1 15 rfl rfl)
theorem dX5_rings_39 : decode cX5_rings 39 = .ok (.iload_n 2, 1) := dk_28 (dk_at dksX5_rings_1 17 rfl rfl)
theorem dX5_rings_40 : decode cX5_rings 40 = .ok (.iadd, 1) := dk_96 (dk_at dksX5_rings_1 18 rfl rfl)
theorem dX5_rings_41 : decode cX5_rings 41 = .ok (.iaload, 1) := dk_46 (dk_at dksX5_rings_1 19 rfl rfl)
theorem dX5_rings_42 : decode cX5_rings 42 = .ok (.invokestatic 223, 3) := dk_184 0 223 (dk_at dksX5_rings_1 20 rfl rfl)
theorem dX5_rings_45 : decode cX5_rings 45 = .ok (.ifCond .eq 29, 3) := dk_153 0 29 (dk_at dksX5_rings_2 0 rfl rfl)
theorem dX5_rings_48 : decode cX5_rings 48 = .ok (.iload_n 1, 1) := dk_27 (dk_at dksX5_rings_2 3 rfl rfl)
theorem dX5_rings_49 : decode cX5_rings 49 = .ok (.iconst 1, 1) := dk_4 (dk_at dksX5_rings_2 4 rfl rfl)
theorem dX5_rings_50 : decode cX5_rings 50 = .ok (.aload_n 0, 1) := dk_42 (dk_at dksX5_rings_2 5 rfl rfl)
theorem dX5_rings_51 : decode cX5_rings 51 = .ok (.getfield 33, 3) := dk_180 0 33 (dk_at dksX5_rings_2 6 rfl rfl)
theorem dX5_rings_54 : decode cX5_rings 54 = .ok (.bipush 90, 2) := dk_16 90 (dk_at dksX5_rings_2 9 rfl rfl)
theorem dX5_rings_56 : decode cX5_rings 56 = .ok (.iload_n 2, 1) := dk_28 (dk_at dksX5_rings_2 11 rfl rfl)
theorem dX5_rings_57 : decode cX5_rings 57 = .ok (.iadd, 1) := dk_96 (dk_at dksX5_rings_2 12 rfl rfl)
theorem dX5_rings_58 : decode cX5_rings 58 = .ok (.iaload, 1) := dk_46 (dk_at dksX5_rings_2 13 rfl rfl)
theorem dX5_rings_59 : decode cX5_rings 59 = .ok (.ishl, 1) := dk_120 (dk_at dksX5_rings_2 14 rfl rfl)
theorem dX5_rings_60 : decode cX5_rings 60 = .ok (.iconst 1, 1) := dk_4 (dk_at dksX5_rings_2 15 rfl rfl)
theorem dX5_rings_61 : decode cX5_rings 61 = .ok (.aload_n 0, 1) := dk_42 (dk_at dksX5_rings_2 16 rfl rfl)
theorem dX5_rings_62 : decode cX5_rings 62 = .ok (.getfield 33, 3) := dk_180 0 33 (dk_at dksX5_rings_2 17 rfl rfl)
theorem dX5_rings_65 : decode cX5_rings 65 = .ok (.bipush 98, 2) := dk_16 98 (dk_at dksX5_rings_2 20 rfl rfl)
theorem dX5_rings_67 : decode cX5_rings 67 = .ok (.iload_n 2, 1) := dk_28 (dk_at dksX5_rings_2 22 rfl rfl)
theorem dX5_rings_68 : decode cX5_rings 68 = .ok (.iadd, 1) := dk_96 (dk_at dksX5_rings_2 23 rfl rfl)
theorem dX5_rings_69 : decode cX5_rings 69 = .ok (.iaload, 1) := dk_46 (dk_at dksX5_rings_3 0 rfl rfl)
theorem dX5_rings_70 : decode cX5_rings 70 = .ok (.ishl, 1) := dk_120 (dk_at dksX5_rings_3 1 rfl rfl)
theorem dX5_rings_71 : decode cX5_rings 71 = .ok (.ior, 1) := dk_128 (dk_at dksX5_rings_3 2 rfl rfl)
theorem dX5_rings_72 : decode cX5_rings 72 = .ok (.ior, 1) := dk_128 (dk_at dksX5_rings_3 3 rfl rfl)
theorem dX5_rings_73 : decode cX5_rings 73 = .ok (.istore_n 1, 1) := dk_60 (dk_at dksX5_rings_3 4 rfl rfl)
theorem dX5_rings_74 : decode cX5_rings 74 = .ok (.iinc 2 1, 3) := dk_132 2 1 (dk_at dksX5_rings_3 5 rfl rfl)
theorem dX5_rings_77 : decode cX5_rings 77 = .ok (.goto (-68), 3) := dk_167 255 188 (dk_at dksX5_rings_3 8 rfl rfl)
theorem dX5_rings_80 : decode cX5_rings 80 = .ok (.iload_n 1, 1) := dk_27 (dk_at dksX5_rings_3 11 rfl rfl)
theorem dX5_rings_81 : decode cX5_rings 81 = .ok (.ireturn, 1) := dk_172 (dk_at dksX5_rings_3 12 rfl rfl)
abbrev cX5_roots : ByteArray := prog_26_method_88_code
def yX5_roots : MethodName := ⟨RX5, "roots", "()I"⟩
def dkwX5_roots_4 : List UInt8 := [162, 0, 5, 28, 60, 132, 2, 1, 167, 255, 163, 27, 172]
abbrev dktX5_roots_4 : List UInt8 := dkwX5_roots_4 ++ []
def dkwX5_roots_3 : List UInt8 := [180, 0, 33, 16, 6, 46, 120, 4, 100, 160, 0, 20, 27, 155, 0, 14, 28, 184, 1, 92, 27, 184, 1, 92]
abbrev dktX5_roots_3 : List UInt8 := dkwX5_roots_3 ++ dktX5_roots_4
def dkwX5_roots_2 : List UInt8 := [153, 0, 12, 42, 21, 4, 182, 1, 107, 167, 0, 4, 3, 128, 62, 132, 4, 1, 167, 255, 219, 29, 4, 42]
abbrev dktX5_roots_2 : List UInt8 := dkwX5_roots_2 ++ dktX5_roots_3
def dkwX5_roots_1 : List UInt8 := [3, 54, 4, 21, 4, 42, 180, 0, 33, 16, 6, 46, 162, 0, 31, 29, 28, 21, 4, 184, 0, 223]
abbrev dktX5_roots_1 : List UInt8 := dkwX5_roots_1 ++ dktX5_roots_2
def dkwX5_roots_0 : List UInt8 := [42, 3, 181, 0, 1, 2, 60, 3, 61, 28, 4, 42, 180, 0, 33, 16, 6, 46, 120, 162, 0, 86, 3, 62]
abbrev dktX5_roots_0 : List UInt8 := dkwX5_roots_0 ++ dktX5_roots_1
theorem dksX5_roots_0 : cX5_roots.data.toList.drop 0 = dktX5_roots_0 := by decide +kernel
theorem dksX5_roots_1 : cX5_roots.data.toList.drop 24 = dktX5_roots_1 := dk_seg dksX5_roots_0 24 rfl rfl
theorem dksX5_roots_2 : cX5_roots.data.toList.drop 46 = dktX5_roots_2 := dk_seg dksX5_roots_1 22 rfl rfl
theorem dksX5_roots_3 : cX5_roots.data.toList.drop 70 = dktX5_roots_3 := dk_seg dksX5_roots_2 24 rfl rfl
theorem dksX5_roots_4 : cX5_roots.data.toList.drop 94 = dktX5_roots_4 := dk_seg dksX5_roots_3 24 rfl rfl
theorem dX5_roots_0 : decode cX5_roots 0 = .ok (.aload_n 0, 1) := dk_42 (dk_at dksX5_roots_0 0 rfl rfl)
theorem dX5_roots_1 : decode cX5_roots 1 = .ok (.iconst 0, 1) := dk_3 (dk_at dksX5_roots_0 1 rfl rfl)
theorem dX5_roots_2 : decode cX5_roots 2 = .ok (.putfield 1, 3) := dk_181 0 1 (dk_at dksX5_roots_0 2 rfl rfl)
theorem dX5_roots_5 : decode cX5_roots 5 = .ok (.iconst (-1), 1) := dk_2 (dk_at dksX5_roots_0 5 rfl rfl)
theorem dX5_roots_6 : decode cX5_roots 6 = .ok (.istore_n 1, 1) := dk_60 (dk_at dksX5_roots_0 6 rfl rfl)
theorem dX5_roots_7 : decode cX5_roots 7 = .ok (.iconst 0, 1) := dk_3 (dk_at dksX5_roots_0 7 rfl rfl)
theorem dX5_roots_8 : decode cX5_roots 8 = .ok (.istore_n 2, 1) := dk_61 (dk_at dksX5_roots_0 8 rfl rfl)
theorem dX5_roots_9 : decode cX5_roots 9 = .ok (.iload_n 2, 1) := dk_28 (dk_at dksX5_roots_0 9 rfl rfl)
theorem dX5_roots_10 : decode cX5_roots 10 = .ok (.iconst 1, 1) := dk_4 (dk_at dksX5_roots_0 10 rfl rfl)
theorem dX5_roots_11 : decode cX5_roots 11 = .ok (.aload_n 0, 1) := dk_42 (dk_at dksX5_roots_0 11 rfl rfl)
theorem dX5_roots_12 : decode cX5_roots 12 = .ok (.getfield 33, 3) := dk_180 0 33 (dk_at dksX5_roots_0 12 rfl rfl)
theorem dX5_roots_15 : decode cX5_roots 15 = .ok (.bipush 6, 2) := dk_16 6 (dk_at dksX5_roots_0 15 rfl rfl)
theorem dX5_roots_17 : decode cX5_roots 17 = .ok (.iaload, 1) := dk_46 (dk_at dksX5_roots_0 17 rfl rfl)
theorem dX5_roots_18 : decode cX5_roots 18 = .ok (.ishl, 1) := dk_120 (dk_at dksX5_roots_0 18 rfl rfl)
theorem dX5_roots_19 : decode cX5_roots 19 = .ok (.if_icmp .ge 86, 3) := dk_162 0 86 (dk_at dksX5_roots_0 19 rfl rfl)
theorem dX5_roots_22 : decode cX5_roots 22 = .ok (.iconst 0, 1) := dk_3 (dk_at dksX5_roots_0 22 rfl rfl)
theorem dX5_roots_23 : decode cX5_roots 23 = .ok (.istore_n 3, 1) := dk_62 (dk_at dksX5_roots_0 23 rfl rfl)
theorem dX5_roots_24 : decode cX5_roots 24 = .ok (.iconst 0, 1) := dk_3 (dk_at dksX5_roots_1 0 rfl rfl)
theorem dX5_roots_25 : decode cX5_roots 25 = .ok (.istore 4, 2) := dk_54 4 (dk_at dksX5_roots_1 1 rfl rfl)
theorem dX5_roots_27 : decode cX5_roots 27 = .ok (.iload 4, 2) := dk_21 4 (dk_at dksX5_roots_1 3 rfl rfl)
theorem dX5_roots_29 : decode cX5_roots 29 = .ok (.aload_n 0, 1) := dk_42 (dk_at dksX5_roots_1 5 rfl rfl)
theorem dX5_roots_30 : decode cX5_roots 30 = .ok (.getfield 33, 3) := dk_180 0 33 (dk_at dksX5_roots_1 6 rfl rfl)
theorem dX5_roots_33 : decode cX5_roots 33 = .ok (.bipush 6, 2) := dk_16 6 (dk_at dksX5_roots_1 9 rfl rfl)
theorem dX5_roots_35 : decode cX5_roots 35 = .ok (.iaload, 1) := dk_46 (dk_at dksX5_roots_1 11 rfl rfl)
theorem dX5_roots_36 : decode cX5_roots 36 = .ok (.if_icmp .ge 31, 3) := dk_162 0 31 (dk_at dksX5_roots_1 12 rfl rfl)
theorem dX5_roots_39 : decode cX5_roots 39 = .ok (.iload_n 3, 1) := dk_29 (dk_at dksX5_roots_1 15 rfl rfl)
theorem dX5_roots_40 : decode cX5_roots 40 = .ok (.iload_n 2, 1) := dk_28 (dk_at dksX5_roots_1 16 rfl rfl)
theorem dX5_roots_41 : decode cX5_roots 41 = .ok (.iload 4, 2) := dk_21 4 (dk_at dksX5_roots_1 17 rfl rfl)
theorem dX5_roots_43 : decode cX5_roots 43 = .ok (.invokestatic 223, 3) := dk_184 0 223 (dk_at dksX5_roots_1 19 rfl rfl)
theorem dX5_roots_46 : decode cX5_roots 46 = .ok (.ifCond .eq 12, 3) := dk_153 0 12 (dk_at dksX5_roots_2 0 rfl rfl)
theorem dX5_roots_49 : decode cX5_roots 49 = .ok (.aload_n 0, 1) := dk_42 (dk_at dksX5_roots_2 3 rfl rfl)
theorem dX5_roots_50 : decode cX5_roots 50 = .ok (.iload 4, 2) := dk_21 4 (dk_at dksX5_roots_2 4 rfl rfl)
theorem dX5_roots_52 : decode cX5_roots 52 = .ok (.invokevirtual 363, 3) := dk_182 1 107 (dk_at dksX5_roots_2 6 rfl rfl)
theorem dX5_roots_55 : decode cX5_roots 55 = .ok (.goto 4, 3) := dk_167 0 4 (dk_at dksX5_roots_2 9 rfl rfl)
theorem dX5_roots_58 : decode cX5_roots 58 = .ok (.iconst 0, 1) := dk_3 (dk_at dksX5_roots_2 12 rfl rfl)
theorem dX5_roots_59 : decode cX5_roots 59 = .ok (.ior, 1) := dk_128 (dk_at dksX5_roots_2 13 rfl rfl)
theorem dX5_roots_60 : decode cX5_roots 60 = .ok (.istore_n 3, 1) := dk_62 (dk_at dksX5_roots_2 14 rfl rfl)
theorem dX5_roots_61 : decode cX5_roots 61 = .ok (.iinc 4 1, 3) := dk_132 4 1 (dk_at dksX5_roots_2 15 rfl rfl)
theorem dX5_roots_64 : decode cX5_roots 64 = .ok (.goto (-37), 3) := dk_167 255 219 (dk_at dksX5_roots_2 18 rfl rfl)
theorem dX5_roots_67 : decode cX5_roots 67 = .ok (.iload_n 3, 1) := dk_29 (dk_at dksX5_roots_2 21 rfl rfl)
theorem dX5_roots_68 : decode cX5_roots 68 = .ok (.iconst 1, 1) := dk_4 (dk_at dksX5_roots_2 22 rfl rfl)
theorem dX5_roots_69 : decode cX5_roots 69 = .ok (.aload_n 0, 1) := dk_42 (dk_at dksX5_roots_2 23 rfl rfl)
theorem dX5_roots_70 : decode cX5_roots 70 = .ok (.getfield 33, 3) := dk_180 0 33 (dk_at dksX5_roots_3 0 rfl rfl)
theorem dX5_roots_73 : decode cX5_roots 73 = .ok (.bipush 6, 2) := dk_16 6 (dk_at dksX5_roots_3 3 rfl rfl)
theorem dX5_roots_75 : decode cX5_roots 75 = .ok (.iaload, 1) := dk_46 (dk_at dksX5_roots_3 5 rfl rfl)
theorem dX5_roots_76 : decode cX5_roots 76 = .ok (.ishl, 1) := dk_120 (dk_at dksX5_roots_3 6 rfl rfl)
theorem dX5_roots_77 : decode cX5_roots 77 = .ok (.iconst 1, 1) := dk_4 (dk_at dksX5_roots_3 7 rfl rfl)
theorem dX5_roots_78 : decode cX5_roots 78 = .ok (.isub, 1) := dk_100 (dk_at dksX5_roots_3 8 rfl rfl)
theorem dX5_roots_79 : decode cX5_roots 79 = .ok (.if_icmp .ne 20, 3) := dk_160 0 20 (dk_at dksX5_roots_3 9 rfl rfl)
theorem dX5_roots_82 : decode cX5_roots 82 = .ok (.iload_n 1, 1) := dk_27 (dk_at dksX5_roots_3 12 rfl rfl)
theorem dX5_roots_83 : decode cX5_roots 83 = .ok (.ifCond .lt 14, 3) := dk_155 0 14 (dk_at dksX5_roots_3 13 rfl rfl)
theorem dX5_roots_86 : decode cX5_roots 86 = .ok (.iload_n 2, 1) := dk_28 (dk_at dksX5_roots_3 16 rfl rfl)
theorem dX5_roots_87 : decode cX5_roots 87 = .ok (.invokestatic 348, 3) := dk_184 1 92 (dk_at dksX5_roots_3 17 rfl rfl)
theorem dX5_roots_90 : decode cX5_roots 90 = .ok (.iload_n 1, 1) := dk_27 (dk_at dksX5_roots_3 20 rfl rfl)
theorem dX5_roots_91 : decode cX5_roots 91 = .ok (.invokestatic 348, 3) := dk_184 1 92 (dk_at dksX5_roots_3 21 rfl rfl)
theorem dX5_roots_94 : decode cX5_roots 94 = .ok (.if_icmp .ge 5, 3) := dk_162 0 5 (dk_at dksX5_roots_4 0 rfl rfl)
theorem dX5_roots_97 : decode cX5_roots 97 = .ok (.iload_n 2, 1) := dk_28 (dk_at dksX5_roots_4 3 rfl rfl)
theorem dX5_roots_98 : decode cX5_roots 98 = .ok (.istore_n 1, 1) := dk_60 (dk_at dksX5_roots_4 4 rfl rfl)
theorem dX5_roots_99 : decode cX5_roots 99 = .ok (.iinc 2 1, 3) := dk_132 2 1 (dk_at dksX5_roots_4 5 rfl rfl)
theorem dX5_roots_102 : decode cX5_roots 102 = .ok (.goto (-93), 3) := dk_167 255 163 (dk_at dksX5_roots_4 8 rfl rfl)
theorem dX5_roots_105 : decode cX5_roots 105 = .ok (.iload_n 1, 1) := dk_27 (dk_at dksX5_roots_4 11 rfl rfl)
theorem dX5_roots_106 : decode cX5_roots 106 = .ok (.ireturn, 1) := dk_172 (dk_at dksX5_roots_4 12 rfl rfl)
abbrev cX5_knows : ByteArray := prog_26_method_90_code
def yX5_knows : MethodName := ⟨RX5, "knows", "(II)I"⟩
def dkwX5_knows_2 : List UInt8 := [162, 0, 12, 42, 180, 0, 69, 27, 46, 167, 0, 4, 2, 172]
abbrev dktX5_knows_2 : List UInt8 := dkwX5_knows_2 ++ []
def dkwX5_knows_1 : List UInt8 := [182, 0, 244, 154, 0, 5, 2, 172, 42, 28, 182, 1, 110, 42, 180, 0, 69, 27, 46, 17, 3, 232]
abbrev dktX5_knows_1 : List UInt8 := dkwX5_knows_1 ++ dktX5_knows_2
def dkwX5_knows_0 : List UInt8 := [42, 3, 181, 0, 1, 27, 3, 42, 180, 0, 33, 6, 46, 4, 100, 184, 0, 187, 153, 0, 11, 42, 28]
abbrev dktX5_knows_0 : List UInt8 := dkwX5_knows_0 ++ dktX5_knows_1
theorem dksX5_knows_0 : cX5_knows.data.toList.drop 0 = dktX5_knows_0 := by decide +kernel
theorem dksX5_knows_1 : cX5_knows.data.toList.drop 23 = dktX5_knows_1 := dk_seg dksX5_knows_0 23 rfl rfl
theorem dksX5_knows_2 : cX5_knows.data.toList.drop 45 = dktX5_knows_2 := dk_seg dksX5_knows_1 22 rfl rfl
theorem dX5_knows_0 : decode cX5_knows 0 = .ok (.aload_n 0, 1) := dk_42 (dk_at dksX5_knows_0 0 rfl rfl)
theorem dX5_knows_1 : decode cX5_knows 1 = .ok (.iconst 0, 1) := dk_3 (dk_at dksX5_knows_0 1 rfl rfl)
theorem dX5_knows_2 : decode cX5_knows 2 = .ok (.putfield 1, 3) := dk_181 0 1 (dk_at dksX5_knows_0 2 rfl rfl)
theorem dX5_knows_5 : decode cX5_knows 5 = .ok (.iload_n 1, 1) := dk_27 (dk_at dksX5_knows_0 5 rfl rfl)
theorem dX5_knows_6 : decode cX5_knows 6 = .ok (.iconst 0, 1) := dk_3 (dk_at dksX5_knows_0 6 rfl rfl)
theorem dX5_knows_7 : decode cX5_knows 7 = .ok (.aload_n 0, 1) := dk_42 (dk_at dksX5_knows_0 7 rfl rfl)
theorem dX5_knows_8 : decode cX5_knows 8 = .ok (.getfield 33, 3) := dk_180 0 33 (dk_at dksX5_knows_0 8 rfl rfl)
theorem dX5_knows_11 : decode cX5_knows 11 = .ok (.iconst 3, 1) := dk_6 (dk_at dksX5_knows_0 11 rfl rfl)
theorem dX5_knows_12 : decode cX5_knows 12 = .ok (.iaload, 1) := dk_46 (dk_at dksX5_knows_0 12 rfl rfl)
theorem dX5_knows_13 : decode cX5_knows 13 = .ok (.iconst 1, 1) := dk_4 (dk_at dksX5_knows_0 13 rfl rfl)
theorem dX5_knows_14 : decode cX5_knows 14 = .ok (.isub, 1) := dk_100 (dk_at dksX5_knows_0 14 rfl rfl)
theorem dX5_knows_15 : decode cX5_knows 15 = .ok (.invokestatic 187, 3) := dk_184 0 187 (dk_at dksX5_knows_0 15 rfl rfl)
theorem dX5_knows_18 : decode cX5_knows 18 = .ok (.ifCond .eq 11, 3) := dk_153 0 11 (dk_at dksX5_knows_0 18 rfl rfl)
theorem dX5_knows_21 : decode cX5_knows 21 = .ok (.aload_n 0, 1) := dk_42 (dk_at dksX5_knows_0 21 rfl rfl)
theorem dX5_knows_22 : decode cX5_knows 22 = .ok (.iload_n 2, 1) := dk_28 (dk_at dksX5_knows_0 22 rfl rfl)
theorem dX5_knows_23 : decode cX5_knows 23 = .ok (.invokevirtual 244, 3) := dk_182 0 244 (dk_at dksX5_knows_1 0 rfl rfl)
theorem dX5_knows_26 : decode cX5_knows 26 = .ok (.ifCond .ne 5, 3) := dk_154 0 5 (dk_at dksX5_knows_1 3 rfl rfl)
theorem dX5_knows_29 : decode cX5_knows 29 = .ok (.iconst (-1), 1) := dk_2 (dk_at dksX5_knows_1 6 rfl rfl)
theorem dX5_knows_30 : decode cX5_knows 30 = .ok (.ireturn, 1) := dk_172 (dk_at dksX5_knows_1 7 rfl rfl)
theorem dX5_knows_31 : decode cX5_knows 31 = .ok (.aload_n 0, 1) := dk_42 (dk_at dksX5_knows_1 8 rfl rfl)
theorem dX5_knows_32 : decode cX5_knows 32 = .ok (.iload_n 2, 1) := dk_28 (dk_at dksX5_knows_1 9 rfl rfl)
theorem dX5_knows_33 : decode cX5_knows 33 = .ok (.invokevirtual 366, 3) := dk_182 1 110 (dk_at dksX5_knows_1 10 rfl rfl)
theorem dX5_knows_36 : decode cX5_knows 36 = .ok (.aload_n 0, 1) := dk_42 (dk_at dksX5_knows_1 13 rfl rfl)
theorem dX5_knows_37 : decode cX5_knows 37 = .ok (.getfield 69, 3) := dk_180 0 69 (dk_at dksX5_knows_1 14 rfl rfl)
theorem dX5_knows_40 : decode cX5_knows 40 = .ok (.iload_n 1, 1) := dk_27 (dk_at dksX5_knows_1 17 rfl rfl)
theorem dX5_knows_41 : decode cX5_knows 41 = .ok (.iaload, 1) := dk_46 (dk_at dksX5_knows_1 18 rfl rfl)
theorem dX5_knows_42 : decode cX5_knows 42 = .ok (.sipush 1000, 3) := dk_17 3 232 (dk_at dksX5_knows_1 19 rfl rfl)
theorem dX5_knows_45 : decode cX5_knows 45 = .ok (.if_icmp .ge 12, 3) := dk_162 0 12 (dk_at dksX5_knows_2 0 rfl rfl)
theorem dX5_knows_48 : decode cX5_knows 48 = .ok (.aload_n 0, 1) := dk_42 (dk_at dksX5_knows_2 3 rfl rfl)
theorem dX5_knows_49 : decode cX5_knows 49 = .ok (.getfield 69, 3) := dk_180 0 69 (dk_at dksX5_knows_2 4 rfl rfl)
theorem dX5_knows_52 : decode cX5_knows 52 = .ok (.iload_n 1, 1) := dk_27 (dk_at dksX5_knows_2 7 rfl rfl)
theorem dX5_knows_53 : decode cX5_knows 53 = .ok (.iaload, 1) := dk_46 (dk_at dksX5_knows_2 8 rfl rfl)
theorem dX5_knows_54 : decode cX5_knows 54 = .ok (.goto 4, 3) := dk_167 0 4 (dk_at dksX5_knows_2 9 rfl rfl)
theorem dX5_knows_57 : decode cX5_knows 57 = .ok (.iconst (-1), 1) := dk_2 (dk_at dksX5_knows_2 12 rfl rfl)
theorem dX5_knows_58 : decode cX5_knows 58 = .ok (.ireturn, 1) := dk_172 (dk_at dksX5_knows_2 13 rfl rfl)
abbrev cX5_spreads : ByteArray := prog_26_method_89_code
def yX5_spreads : MethodName := ⟨RX5, "spreads", "(I)V"⟩
def dkwX5_spreads_10 : List UInt8 := [132, 3, 1, 167, 255, 90, 177]
abbrev dktX5_spreads_10 : List UInt8 := dkwX5_spreads_10 ++ []
def dkwX5_spreads_9 : List UInt8 := [21, 4, 42, 180, 0, 69, 21, 5, 46, 4, 96, 79, 132, 5, 1, 167, 255, 125, 132, 4, 1, 167, 255, 105]
abbrev dktX5_spreads_9 : List UInt8 := dkwX5_spreads_9 ++ dktX5_spreads_10
def dkwX5_spreads_8 : List UInt8 := [42, 180, 0, 69, 21, 5, 46, 4, 96, 42, 180, 0, 69, 21, 4, 46, 162, 0, 19, 42, 180, 0, 69]
abbrev dktX5_spreads_8 : List UInt8 := dkwX5_spreads_8 ++ dktX5_spreads_9
def dkwX5_spreads_7 : List UInt8 := [167, 0, 4, 3, 54, 6, 21, 6, 153, 0, 51, 42, 180, 0, 69, 21, 5, 46, 17, 3, 232, 162, 0, 38]
abbrev dktX5_spreads_7 : List UInt8 := dkwX5_spreads_7 ++ dktX5_spreads_8
def dkwX5_spreads_6 : List UInt8 := [21, 4, 96, 46, 96, 46, 42, 180, 0, 33, 16, 16, 21, 5, 96, 46, 184, 0, 223, 153, 0, 7, 4]
abbrev dktX5_spreads_6 : List UInt8 := dkwX5_spreads_6 ++ dktX5_spreads_7
def dkwX5_spreads_5 : List UInt8 := [180, 0, 33, 16, 16, 21, 5, 96, 46, 159, 0, 37, 42, 180, 0, 33, 16, 8, 42, 180, 0, 33, 16, 16]
abbrev dktX5_spreads_5 : List UInt8 := dkwX5_spreads_5 ++ dktX5_spreads_6
def dkwX5_spreads_4 : List UInt8 := [21, 5, 42, 180, 0, 33, 6, 46, 162, 0, 126, 42, 180, 0, 33, 16, 16, 21, 4, 96, 46, 42]
abbrev dktX5_spreads_4 : List UInt8 := dkwX5_spreads_4 ++ dktX5_spreads_5
def dkwX5_spreads_3 : List UInt8 := [62, 29, 16, 6, 162, 0, 166, 3, 54, 4, 21, 4, 42, 180, 0, 33, 6, 46, 162, 0, 146, 3, 54, 5]
abbrev dktX5_spreads_3 : List UInt8 := dkwX5_spreads_3 ++ dktX5_spreads_4
def dkwX5_spreads_2 : List UInt8 := [17, 0, 140, 27, 96, 46, 160, 0, 7, 28, 167, 0, 6, 17, 3, 232, 79, 132, 3, 1, 167, 255, 204, 3]
abbrev dktX5_spreads_2 : List UInt8 := dkwX5_spreads_2 ++ dktX5_spreads_3
def dkwX5_spreads_1 : List UInt8 := [42, 180, 0, 69, 29, 28, 155, 0, 29, 42, 180, 0, 33, 16, 16, 29, 96, 46, 42, 180, 0, 33]
abbrev dktX5_spreads_1 : List UInt8 := dkwX5_spreads_1 ++ dktX5_spreads_2
def dkwX5_spreads_0 : List UInt8 := [42, 180, 0, 33, 16, 124, 27, 96, 46, 4, 100, 61, 3, 62, 29, 42, 180, 0, 33, 6, 46, 162, 0, 48]
abbrev dktX5_spreads_0 : List UInt8 := dkwX5_spreads_0 ++ dktX5_spreads_1
theorem dksX5_spreads_0 : cX5_spreads.data.toList.drop 0 = dktX5_spreads_0 := by decide +kernel
theorem dksX5_spreads_1 : cX5_spreads.data.toList.drop 24 = dktX5_spreads_1 := dk_seg dksX5_spreads_0 24 rfl rfl
theorem dksX5_spreads_2 : cX5_spreads.data.toList.drop 46 = dktX5_spreads_2 := dk_seg dksX5_spreads_1 22 rfl rfl
theorem dksX5_spreads_3 : cX5_spreads.data.toList.drop 70 = dktX5_spreads_3 := dk_seg dksX5_spreads_2 24 rfl rfl
theorem dksX5_spreads_4 : cX5_spreads.data.toList.drop 94 = dktX5_spreads_4 := dk_seg dksX5_spreads_3 24 rfl rfl
theorem dksX5_spreads_5 : cX5_spreads.data.toList.drop 116 = dktX5_spreads_5 := dk_seg dksX5_spreads_4 22 rfl rfl
theorem dksX5_spreads_6 : cX5_spreads.data.toList.drop 140 = dktX5_spreads_6 := dk_seg dksX5_spreads_5 24 rfl rfl
theorem dksX5_spreads_7 : cX5_spreads.data.toList.drop 163 = dktX5_spreads_7 := dk_seg dksX5_spreads_6 23 rfl rfl
theorem dksX5_spreads_8 : cX5_spreads.data.toList.drop 187 = dktX5_spreads_8 := dk_seg dksX5_spreads_7 24 rfl rfl
theorem dksX5_spreads_9 : cX5_spreads.data.toList.drop 210 = dktX5_spreads_9 := dk_seg dksX5_spreads_8 23 rfl rfl
theorem dksX5_spreads_10 : cX5_spreads.data.toList.drop 234 = dktX5_spreads_10 := dk_seg dksX5_spreads_9 24 rfl rfl
theorem dX5_spreads_0 : decode cX5_spreads 0 = .ok (.aload_n 0, 1) := dk_42 (dk_at dksX5_spreads_0 0 rfl rfl)
theorem dX5_spreads_1 : decode cX5_spreads 1 = .ok (.getfield 33, 3) := dk_180 0 33 (dk_at dksX5_spreads_0 1 rfl rfl)
theorem dX5_spreads_4 : decode cX5_spreads 4 = .ok (.bipush 124, 2) := dk_16 124 (dk_at dksX5_spreads_0 4 rfl rfl)
theorem dX5_spreads_6 : decode cX5_spreads 6 = .ok (.iload_n 1, 1) := dk_27 (dk_at dksX5_spreads_0 6 rfl rfl)
theorem dX5_spreads_7 : decode cX5_spreads 7 = .ok (.iadd, 1) := dk_96 (dk_at dksX5_spreads_0 7 rfl rfl)
theorem dX5_spreads_8 : decode cX5_spreads 8 = .ok (.iaload, 1) := dk_46 (dk_at dksX5_spreads_0 8 rfl rfl)
theorem dX5_spreads_9 : decode cX5_spreads 9 = .ok (.iconst 1, 1) := dk_4 (dk_at dksX5_spreads_0 9 rfl rfl)
theorem dX5_spreads_10 : decode cX5_spreads 10 = .ok (.isub, 1) := dk_100 (dk_at dksX5_spreads_0 10 rfl rfl)
theorem dX5_spreads_11 : decode cX5_spreads 11 = .ok (.istore_n 2, 1) := dk_61 (dk_at dksX5_spreads_0 11 rfl rfl)
theorem dX5_spreads_12 : decode cX5_spreads 12 = .ok (.iconst 0, 1) := dk_3 (dk_at dksX5_spreads_0 12 rfl rfl)
theorem dX5_spreads_13 : decode cX5_spreads 13 = .ok (.istore_n 3, 1) := dk_62 (dk_at dksX5_spreads_0 13 rfl rfl)
theorem dX5_spreads_14 : decode cX5_spreads 14 = .ok (.iload_n 3, 1) := dk_29 (dk_at dksX5_spreads_0 14 rfl rfl)
theorem dX5_spreads_15 : decode cX5_spreads 15 = .ok (.aload_n 0, 1) := dk_42 (dk_at dksX5_spreads_0 15 rfl rfl)
theorem dX5_spreads_16 : decode cX5_spreads 16 = .ok (.getfield 33, 3) := dk_180 0 33 (dk_at dksX5_spreads_0 16 rfl rfl)
theorem dX5_spreads_19 : decode cX5_spreads 19 = .ok (.iconst 3, 1) := dk_6 (dk_at dksX5_spreads_0 19 rfl rfl)
theorem dX5_spreads_20 : decode cX5_spreads 20 = .ok (.iaload, 1) := dk_46 (dk_at dksX5_spreads_0 20 rfl rfl)
theorem dX5_spreads_21 : decode cX5_spreads 21 = .ok (.if_icmp .ge 48, 3) := dk_162 0 48 (dk_at dksX5_spreads_0 21 rfl rfl)
theorem dX5_spreads_24 : decode cX5_spreads 24 = .ok (.aload_n 0, 1) := dk_42 (dk_at dksX5_spreads_1 0 rfl rfl)
theorem dX5_spreads_25 : decode cX5_spreads 25 = .ok (.getfield 69, 3) := dk_180 0 69 (dk_at dksX5_spreads_1 1 rfl rfl)
theorem dX5_spreads_28 : decode cX5_spreads 28 = .ok (.iload_n 3, 1) := dk_29 (dk_at dksX5_spreads_1 4 rfl rfl)
theorem dX5_spreads_29 : decode cX5_spreads 29 = .ok (.iload_n 2, 1) := dk_28 (dk_at dksX5_spreads_1 5 rfl rfl)
theorem dX5_spreads_30 : decode cX5_spreads 30 = .ok (.ifCond .lt 29, 3) := dk_155 0 29 (dk_at dksX5_spreads_1 6 rfl rfl)
theorem dX5_spreads_33 : decode cX5_spreads 33 = .ok (.aload_n 0, 1) := dk_42 (dk_at dksX5_spreads_1 9 rfl rfl)
theorem dX5_spreads_34 : decode cX5_spreads 34 = .ok (.getfield 33, 3) := dk_180 0 33 (dk_at dksX5_spreads_1 10 rfl rfl)
theorem dX5_spreads_37 : decode cX5_spreads 37 = .ok (.bipush 16, 2) := dk_16 16 (dk_at dksX5_spreads_1 13 rfl rfl)
theorem dX5_spreads_39 : decode cX5_spreads 39 = .ok (.iload_n 3, 1) := dk_29 (dk_at dksX5_spreads_1 15 rfl rfl)
theorem dX5_spreads_40 : decode cX5_spreads 40 = .ok (.iadd, 1) := dk_96 (dk_at dksX5_spreads_1 16 rfl rfl)
theorem dX5_spreads_41 : decode cX5_spreads 41 = .ok (.iaload, 1) := dk_46 (dk_at dksX5_spreads_1 17 rfl rfl)
theorem dX5_spreads_42 : decode cX5_spreads 42 = .ok (.aload_n 0, 1) := dk_42 (dk_at dksX5_spreads_1 18 rfl rfl)
theorem dX5_spreads_43 : decode cX5_spreads 43 = .ok (.getfield 33, 3) := dk_180 0 33 (dk_at dksX5_spreads_1 19 rfl rfl)
theorem dX5_spreads_46 : decode cX5_spreads 46 = .ok (.sipush 140, 3) := dk_17 0 140 (dk_at dksX5_spreads_2 0 rfl rfl)
theorem dX5_spreads_49 : decode cX5_spreads 49 = .ok (.iload_n 1, 1) := dk_27 (dk_at dksX5_spreads_2 3 rfl rfl)
theorem dX5_spreads_50 : decode cX5_spreads 50 = .ok (.iadd, 1) := dk_96 (dk_at dksX5_spreads_2 4 rfl rfl)
theorem dX5_spreads_51 : decode cX5_spreads 51 = .ok (.iaload, 1) := dk_46 (dk_at dksX5_spreads_2 5 rfl rfl)
theorem dX5_spreads_52 : decode cX5_spreads 52 = .ok (.if_icmp .ne 7, 3) := dk_160 0 7 (dk_at dksX5_spreads_2 6 rfl rfl)
theorem dX5_spreads_55 : decode cX5_spreads 55 = .ok (.iload_n 2, 1) := dk_28 (dk_at dksX5_spreads_2 9 rfl rfl)
theorem dX5_spreads_56 : decode cX5_spreads 56 = .ok (.goto 6, 3) := dk_167 0 6 (dk_at dksX5_spreads_2 10 rfl rfl)
theorem dX5_spreads_59 : decode cX5_spreads 59 = .ok (.sipush 1000, 3) := dk_17 3 232 (dk_at dksX5_spreads_2 13 rfl rfl)
theorem dX5_spreads_62 : decode cX5_spreads 62 = .ok (.iastore, 1) := dk_79 (dk_at dksX5_spreads_2 16 rfl rfl)
theorem dX5_spreads_63 : decode cX5_spreads 63 = .ok (.iinc 3 1, 3) := dk_132 3 1 (dk_at dksX5_spreads_2 17 rfl rfl)
theorem dX5_spreads_66 : decode cX5_spreads 66 = .ok (.goto (-52), 3) := dk_167 255 204 (dk_at dksX5_spreads_2 20 rfl rfl)
theorem dX5_spreads_69 : decode cX5_spreads 69 = .ok (.iconst 0, 1) := dk_3 (dk_at dksX5_spreads_2 23 rfl rfl)
theorem dX5_spreads_70 : decode cX5_spreads 70 = .ok (.istore_n 3, 1) := dk_62 (dk_at dksX5_spreads_3 0 rfl rfl)
theorem dX5_spreads_71 : decode cX5_spreads 71 = .ok (.iload_n 3, 1) := dk_29 (dk_at dksX5_spreads_3 1 rfl rfl)
theorem dX5_spreads_72 : decode cX5_spreads 72 = .ok (.bipush 6, 2) := dk_16 6 (dk_at dksX5_spreads_3 2 rfl rfl)
theorem dX5_spreads_74 : decode cX5_spreads 74 = .ok (.if_icmp .ge 166, 3) := dk_162 0 166 (dk_at dksX5_spreads_3 4 rfl rfl)
theorem dX5_spreads_77 : decode cX5_spreads 77 = .ok (.iconst 0, 1) := dk_3 (dk_at dksX5_spreads_3 7 rfl rfl)
theorem dX5_spreads_78 : decode cX5_spreads 78 = .ok (.istore 4, 2) := dk_54 4 (dk_at dksX5_spreads_3 8 rfl rfl)
theorem dX5_spreads_80 : decode cX5_spreads 80 = .ok (.iload 4, 2) := dk_21 4 (dk_at dksX5_spreads_3 10 rfl rfl)
theorem dX5_spreads_82 : decode cX5_spreads 82 = .ok (.aload_n 0, 1) := dk_42 (dk_at dksX5_spreads_3 12 rfl rfl)
theorem dX5_spreads_83 : decode cX5_spreads 83 = .ok (.getfield 33, 3) := dk_180 0 33 (dk_at dksX5_spreads_3 13 rfl rfl)
theorem dX5_spreads_86 : decode cX5_spreads 86 = .ok (.iconst 3, 1) := dk_6 (dk_at dksX5_spreads_3 16 rfl rfl)
theorem dX5_spreads_87 : decode cX5_spreads 87 = .ok (.iaload, 1) := dk_46 (dk_at dksX5_spreads_3 17 rfl rfl)
theorem dX5_spreads_88 : decode cX5_spreads 88 = .ok (.if_icmp .ge 146, 3) := dk_162 0 146 (dk_at dksX5_spreads_3 18 rfl rfl)
theorem dX5_spreads_91 : decode cX5_spreads 91 = .ok (.iconst 0, 1) := dk_3 (dk_at dksX5_spreads_3 21 rfl rfl)
theorem dX5_spreads_92 : decode cX5_spreads 92 = .ok (.istore 5, 2) := dk_54 5 (dk_at dksX5_spreads_3 22 rfl rfl)
theorem dX5_spreads_94 : decode cX5_spreads 94 = .ok (.iload 5, 2) := dk_21 5 (dk_at dksX5_spreads_4 0 rfl rfl)
theorem dX5_spreads_96 : decode cX5_spreads 96 = .ok (.aload_n 0, 1) := dk_42 (dk_at dksX5_spreads_4 2 rfl rfl)
theorem dX5_spreads_97 : decode cX5_spreads 97 = .ok (.getfield 33, 3) := dk_180 0 33 (dk_at dksX5_spreads_4 3 rfl rfl)
theorem dX5_spreads_100 : decode cX5_spreads 100 = .ok (.iconst 3, 1) := dk_6 (dk_at dksX5_spreads_4 6 rfl rfl)
theorem dX5_spreads_101 : decode cX5_spreads 101 = .ok (.iaload, 1) := dk_46 (dk_at dksX5_spreads_4 7 rfl rfl)
theorem dX5_spreads_102 : decode cX5_spreads 102 = .ok (.if_icmp .ge 126, 3) := dk_162 0 126 (dk_at dksX5_spreads_4 8 rfl rfl)
theorem dX5_spreads_105 : decode cX5_spreads 105 = .ok (.aload_n 0, 1) := dk_42 (dk_at dksX5_spreads_4 11 rfl rfl)
theorem dX5_spreads_106 : decode cX5_spreads 106 = .ok (.getfield 33, 3) := dk_180 0 33 (dk_at dksX5_spreads_4 12 rfl rfl)
theorem dX5_spreads_109 : decode cX5_spreads 109 = .ok (.bipush 16, 2) := dk_16 16 (dk_at dksX5_spreads_4 15 rfl rfl)
theorem dX5_spreads_111 : decode cX5_spreads 111 = .ok (.iload 4, 2) := dk_21 4 (dk_at dksX5_spreads_4 17 rfl rfl)
theorem dX5_spreads_113 : decode cX5_spreads 113 = .ok (.iadd, 1) := dk_96 (dk_at dksX5_spreads_4 19 rfl rfl)
theorem dX5_spreads_114 : decode cX5_spreads 114 = .ok (.iaload, 1) := dk_46 (dk_at dksX5_spreads_4 20 rfl rfl)
theorem dX5_spreads_115 : decode cX5_spreads 115 = .ok (.aload_n 0, 1) := dk_42 (dk_at dksX5_spreads_4 21 rfl rfl)
theorem dX5_spreads_116 : decode cX5_spreads 116 = .ok (.getfield 33, 3) := dk_180 0 33 (dk_at dksX5_spreads_5 0 rfl rfl)
theorem dX5_spreads_119 : decode cX5_spreads 119 = .ok (.bipush 16, 2) := dk_16 16 (dk_at dksX5_spreads_5 3 rfl rfl)
theorem dX5_spreads_121 : decode cX5_spreads 121 = .ok (.iload 5, 2) := dk_21 5 (dk_at dksX5_spreads_5 5 rfl rfl)
theorem dX5_spreads_123 : decode cX5_spreads 123 = .ok (.iadd, 1) := dk_96 (dk_at dksX5_spreads_5 7 rfl rfl)
theorem dX5_spreads_124 : decode cX5_spreads 124 = .ok (.iaload, 1) := dk_46 (dk_at dksX5_spreads_5 8 rfl rfl)
theorem dX5_spreads_125 : decode cX5_spreads 125 = .ok (.if_icmp .eq 37, 3) := dk_159 0 37 (dk_at dksX5_spreads_5 9 rfl rfl)
theorem dX5_spreads_128 : decode cX5_spreads 128 = .ok (.aload_n 0, 1) := dk_42 (dk_at dksX5_spreads_5 12 rfl rfl)
theorem dX5_spreads_129 : decode cX5_spreads 129 = .ok (.getfield 33, 3) := dk_180 0 33 (dk_at dksX5_spreads_5 13 rfl rfl)
theorem dX5_spreads_132 : decode cX5_spreads 132 = .ok (.bipush 8, 2) := dk_16 8 (dk_at dksX5_spreads_5 16 rfl rfl)
theorem dX5_spreads_134 : decode cX5_spreads 134 = .ok (.aload_n 0, 1) := dk_42 (dk_at dksX5_spreads_5 18 rfl rfl)
theorem dX5_spreads_135 : decode cX5_spreads 135 = .ok (.getfield 33, 3) := dk_180 0 33 (dk_at dksX5_spreads_5 19 rfl rfl)
theorem dX5_spreads_138 : decode cX5_spreads 138 = .ok (.bipush 16, 2) := dk_16 16 (dk_at dksX5_spreads_5 22 rfl rfl)
theorem dX5_spreads_140 : decode cX5_spreads 140 = .ok (.iload 4, 2) := dk_21 4 (dk_at dksX5_spreads_6 0 rfl rfl)
theorem dX5_spreads_142 : decode cX5_spreads 142 = .ok (.iadd, 1) := dk_96 (dk_at dksX5_spreads_6 2 rfl rfl)
theorem dX5_spreads_143 : decode cX5_spreads 143 = .ok (.iaload, 1) := dk_46 (dk_at dksX5_spreads_6 3 rfl rfl)
theorem dX5_spreads_144 : decode cX5_spreads 144 = .ok (.iadd, 1) := dk_96 (dk_at dksX5_spreads_6 4 rfl rfl)
theorem dX5_spreads_145 : decode cX5_spreads 145 = .ok (.iaload, 1) := dk_46 (dk_at dksX5_spreads_6 5 rfl rfl)
theorem dX5_spreads_146 : decode cX5_spreads 146 = .ok (.aload_n 0, 1) := dk_42 (dk_at dksX5_spreads_6 6 rfl rfl)
theorem dX5_spreads_147 : decode cX5_spreads 147 = .ok (.getfield 33, 3) := dk_180 0 33 (dk_at dksX5_spreads_6 7 rfl rfl)
theorem dX5_spreads_150 : decode cX5_spreads 150 = .ok (.bipush 16, 2) := dk_16 16 (dk_at dksX5_spreads_6 10 rfl rfl)
theorem dX5_spreads_152 : decode cX5_spreads 152 = .ok (.iload 5, 2) := dk_21 5 (dk_at dksX5_spreads_6 12 rfl rfl)
theorem dX5_spreads_154 : decode cX5_spreads 154 = .ok (.iadd, 1) := dk_96 (dk_at dksX5_spreads_6 14 rfl rfl)
theorem dX5_spreads_155 : decode cX5_spreads 155 = .ok (.iaload, 1) := dk_46 (dk_at dksX5_spreads_6 15 rfl rfl)
theorem dX5_spreads_156 : decode cX5_spreads 156 = .ok (.invokestatic 223, 3) := dk_184 0 223 (dk_at dksX5_spreads_6 16 rfl rfl)
theorem dX5_spreads_159 : decode cX5_spreads 159 = .ok (.ifCond .eq 7, 3) := dk_153 0 7 (dk_at dksX5_spreads_6 19 rfl rfl)
theorem dX5_spreads_162 : decode cX5_spreads 162 = .ok (.iconst 1, 1) := dk_4 (dk_at dksX5_spreads_6 22 rfl rfl)
theorem dX5_spreads_163 : decode cX5_spreads 163 = .ok (.goto 4, 3) := dk_167 0 4 (dk_at dksX5_spreads_7 0 rfl rfl)
theorem dX5_spreads_166 : decode cX5_spreads 166 = .ok (.iconst 0, 1) := dk_3 (dk_at dksX5_spreads_7 3 rfl rfl)
theorem dX5_spreads_167 : decode cX5_spreads 167 = .ok (.istore 6, 2) := dk_54 6 (dk_at dksX5_spreads_7 4 rfl rfl)
theorem dX5_spreads_169 : decode cX5_spreads 169 = .ok (.iload 6, 2) := dk_21 6 (dk_at dksX5_spreads_7 6 rfl rfl)
theorem dX5_spreads_171 : decode cX5_spreads 171 = .ok (.ifCond .eq 51, 3) := dk_153 0 51 (dk_at dksX5_spreads_7 8 rfl rfl)
theorem dX5_spreads_174 : decode cX5_spreads 174 = .ok (.aload_n 0, 1) := dk_42 (dk_at dksX5_spreads_7 11 rfl rfl)
theorem dX5_spreads_175 : decode cX5_spreads 175 = .ok (.getfield 69, 3) := dk_180 0 69 (dk_at dksX5_spreads_7 12 rfl rfl)
theorem dX5_spreads_178 : decode cX5_spreads 178 = .ok (.iload 5, 2) := dk_21 5 (dk_at dksX5_spreads_7 15 rfl rfl)
theorem dX5_spreads_180 : decode cX5_spreads 180 = .ok (.iaload, 1) := dk_46 (dk_at dksX5_spreads_7 17 rfl rfl)
theorem dX5_spreads_181 : decode cX5_spreads 181 = .ok (.sipush 1000, 3) := dk_17 3 232 (dk_at dksX5_spreads_7 18 rfl rfl)
theorem dX5_spreads_184 : decode cX5_spreads 184 = .ok (.if_icmp .ge 38, 3) := dk_162 0 38 (dk_at dksX5_spreads_7 21 rfl rfl)
theorem dX5_spreads_187 : decode cX5_spreads 187 = .ok (.aload_n 0, 1) := dk_42 (dk_at dksX5_spreads_8 0 rfl rfl)
theorem dX5_spreads_188 : decode cX5_spreads 188 = .ok (.getfield 69, 3) := dk_180 0 69 (dk_at dksX5_spreads_8 1 rfl rfl)
theorem dX5_spreads_191 : decode cX5_spreads 191 = .ok (.iload 5, 2) := dk_21 5 (dk_at dksX5_spreads_8 4 rfl rfl)
theorem dX5_spreads_193 : decode cX5_spreads 193 = .ok (.iaload, 1) := dk_46 (dk_at dksX5_spreads_8 6 rfl rfl)
theorem dX5_spreads_194 : decode cX5_spreads 194 = .ok (.iconst 1, 1) := dk_4 (dk_at dksX5_spreads_8 7 rfl rfl)
theorem dX5_spreads_195 : decode cX5_spreads 195 = .ok (.iadd, 1) := dk_96 (dk_at dksX5_spreads_8 8 rfl rfl)
theorem dX5_spreads_196 : decode cX5_spreads 196 = .ok (.aload_n 0, 1) := dk_42 (dk_at dksX5_spreads_8 9 rfl rfl)
theorem dX5_spreads_197 : decode cX5_spreads 197 = .ok (.getfield 69, 3) := dk_180 0 69 (dk_at dksX5_spreads_8 10 rfl rfl)
theorem dX5_spreads_200 : decode cX5_spreads 200 = .ok (.iload 4, 2) := dk_21 4 (dk_at dksX5_spreads_8 13 rfl rfl)
theorem dX5_spreads_202 : decode cX5_spreads 202 = .ok (.iaload, 1) := dk_46 (dk_at dksX5_spreads_8 15 rfl rfl)
theorem dX5_spreads_203 : decode cX5_spreads 203 = .ok (.if_icmp .ge 19, 3) := dk_162 0 19 (dk_at dksX5_spreads_8 16 rfl rfl)
theorem dX5_spreads_206 : decode cX5_spreads 206 = .ok (.aload_n 0, 1) := dk_42 (dk_at dksX5_spreads_8 19 rfl rfl)
theorem dX5_spreads_207 : decode cX5_spreads 207 = .ok (.getfield 69, 3) := dk_180 0 69 (dk_at dksX5_spreads_8 20 rfl rfl)
theorem dX5_spreads_210 : decode cX5_spreads 210 = .ok (.iload 4, 2) := dk_21 4 (dk_at dksX5_spreads_9 0 rfl rfl)
theorem dX5_spreads_212 : decode cX5_spreads 212 = .ok (.aload_n 0, 1) := dk_42 (dk_at dksX5_spreads_9 2 rfl rfl)
theorem dX5_spreads_213 : decode cX5_spreads 213 = .ok (.getfield 69, 3) := dk_180 0 69 (dk_at dksX5_spreads_9 3 rfl rfl)
theorem dX5_spreads_216 : decode cX5_spreads 216 = .ok (.iload 5, 2) := dk_21 5 (dk_at dksX5_spreads_9 6 rfl rfl)
theorem dX5_spreads_218 : decode cX5_spreads 218 = .ok (.iaload, 1) := dk_46 (dk_at dksX5_spreads_9 8 rfl rfl)
theorem dX5_spreads_219 : decode cX5_spreads 219 = .ok (.iconst 1, 1) := dk_4 (dk_at dksX5_spreads_9 9 rfl rfl)
theorem dX5_spreads_220 : decode cX5_spreads 220 = .ok (.iadd, 1) := dk_96 (dk_at dksX5_spreads_9 10 rfl rfl)
theorem dX5_spreads_221 : decode cX5_spreads 221 = .ok (.iastore, 1) := dk_79 (dk_at dksX5_spreads_9 11 rfl rfl)
theorem dX5_spreads_222 : decode cX5_spreads 222 = .ok (.iinc 5 1, 3) := dk_132 5 1 (dk_at dksX5_spreads_9 12 rfl rfl)
theorem dX5_spreads_225 : decode cX5_spreads 225 = .ok (.goto (-131), 3) := dk_167 255 125 (dk_at dksX5_spreads_9 15 rfl rfl)
theorem dX5_spreads_228 : decode cX5_spreads 228 = .ok (.iinc 4 1, 3) := dk_132 4 1 (dk_at dksX5_spreads_9 18 rfl rfl)
theorem dX5_spreads_231 : decode cX5_spreads 231 = .ok (.goto (-151), 3) := dk_167 255 105 (dk_at dksX5_spreads_9 21 rfl rfl)
theorem dX5_spreads_234 : decode cX5_spreads 234 = .ok (.iinc 3 1, 3) := dk_132 3 1 (dk_at dksX5_spreads_10 0 rfl rfl)
theorem dX5_spreads_237 : decode cX5_spreads 237 = .ok (.goto (-166), 3) := dk_167 255 90 (dk_at dksX5_spreads_10 3 rfl rfl)
theorem dX5_spreads_240 : decode cX5_spreads 240 = .ok (.return_, 1) := dk_177 (dk_at dksX5_spreads_10 6 rfl rfl)
abbrev cX5_heard : ByteArray := prog_26_method_91_code
def yX5_heard : MethodName := ⟨RX5, "heard", "(I)I"⟩
def dkwX5_heard_2 : List UInt8 := [163, 0, 9, 4, 29, 120, 167, 0, 4, 3, 128, 61, 132, 3, 1, 167, 255, 217, 28, 172]
abbrev dktX5_heard_2 : List UInt8 := dkwX5_heard_2 ++ []
def dkwX5_heard_1 : List UInt8 := [29, 42, 180, 0, 33, 6, 46, 162, 0, 35, 28, 42, 180, 0, 69, 29, 46, 42, 180, 0, 33, 16, 106, 46]
abbrev dktX5_heard_1 : List UInt8 := dkwX5_heard_1 ++ dktX5_heard_2
def dkwX5_heard_0 : List UInt8 := [42, 3, 181, 0, 1, 42, 27, 182, 0, 244, 154, 0, 5, 2, 172, 42, 27, 182, 1, 110, 3, 61, 3, 62]
abbrev dktX5_heard_0 : List UInt8 := dkwX5_heard_0 ++ dktX5_heard_1
theorem dksX5_heard_0 : cX5_heard.data.toList.drop 0 = dktX5_heard_0 := by decide +kernel
theorem dksX5_heard_1 : cX5_heard.data.toList.drop 24 = dktX5_heard_1 := dk_seg dksX5_heard_0 24 rfl rfl
theorem dksX5_heard_2 : cX5_heard.data.toList.drop 48 = dktX5_heard_2 := dk_seg dksX5_heard_1 24 rfl rfl
theorem dX5_heard_0 : decode cX5_heard 0 = .ok (.aload_n 0, 1) := dk_42 (dk_at dksX5_heard_0 0 rfl rfl)
theorem dX5_heard_1 : decode cX5_heard 1 = .ok (.iconst 0, 1) := dk_3 (dk_at dksX5_heard_0 1 rfl rfl)
theorem dX5_heard_2 : decode cX5_heard 2 = .ok (.putfield 1, 3) := dk_181 0 1 (dk_at dksX5_heard_0 2 rfl rfl)
theorem dX5_heard_5 : decode cX5_heard 5 = .ok (.aload_n 0, 1) := dk_42 (dk_at dksX5_heard_0 5 rfl rfl)
theorem dX5_heard_6 : decode cX5_heard 6 = .ok (.iload_n 1, 1) := dk_27 (dk_at dksX5_heard_0 6 rfl rfl)
theorem dX5_heard_7 : decode cX5_heard 7 = .ok (.invokevirtual 244, 3) := dk_182 0 244 (dk_at dksX5_heard_0 7 rfl rfl)
theorem dX5_heard_10 : decode cX5_heard 10 = .ok (.ifCond .ne 5, 3) := dk_154 0 5 (dk_at dksX5_heard_0 10 rfl rfl)
theorem dX5_heard_13 : decode cX5_heard 13 = .ok (.iconst (-1), 1) := dk_2 (dk_at dksX5_heard_0 13 rfl rfl)
theorem dX5_heard_14 : decode cX5_heard 14 = .ok (.ireturn, 1) := dk_172 (dk_at dksX5_heard_0 14 rfl rfl)
theorem dX5_heard_15 : decode cX5_heard 15 = .ok (.aload_n 0, 1) := dk_42 (dk_at dksX5_heard_0 15 rfl rfl)
theorem dX5_heard_16 : decode cX5_heard 16 = .ok (.iload_n 1, 1) := dk_27 (dk_at dksX5_heard_0 16 rfl rfl)
theorem dX5_heard_17 : decode cX5_heard 17 = .ok (.invokevirtual 366, 3) := dk_182 1 110 (dk_at dksX5_heard_0 17 rfl rfl)
theorem dX5_heard_20 : decode cX5_heard 20 = .ok (.iconst 0, 1) := dk_3 (dk_at dksX5_heard_0 20 rfl rfl)
theorem dX5_heard_21 : decode cX5_heard 21 = .ok (.istore_n 2, 1) := dk_61 (dk_at dksX5_heard_0 21 rfl rfl)
theorem dX5_heard_22 : decode cX5_heard 22 = .ok (.iconst 0, 1) := dk_3 (dk_at dksX5_heard_0 22 rfl rfl)
theorem dX5_heard_23 : decode cX5_heard 23 = .ok (.istore_n 3, 1) := dk_62 (dk_at dksX5_heard_0 23 rfl rfl)
theorem dX5_heard_24 : decode cX5_heard 24 = .ok (.iload_n 3, 1) := dk_29 (dk_at dksX5_heard_1 0 rfl rfl)
theorem dX5_heard_25 : decode cX5_heard 25 = .ok (.aload_n 0, 1) := dk_42 (dk_at dksX5_heard_1 1 rfl rfl)
theorem dX5_heard_26 : decode cX5_heard 26 = .ok (.getfield 33, 3) := dk_180 0 33 (dk_at dksX5_heard_1 2 rfl rfl)
theorem dX5_heard_29 : decode cX5_heard 29 = .ok (.iconst 3, 1) := dk_6 (dk_at dksX5_heard_1 5 rfl rfl)
theorem dX5_heard_30 : decode cX5_heard 30 = .ok (.iaload, 1) := dk_46 (dk_at dksX5_heard_1 6 rfl rfl)
theorem dX5_heard_31 : decode cX5_heard 31 = .ok (.if_icmp .ge 35, 3) := dk_162 0 35 (dk_at dksX5_heard_1 7 rfl rfl)
theorem dX5_heard_34 : decode cX5_heard 34 = .ok (.iload_n 2, 1) := dk_28 (dk_at dksX5_heard_1 10 rfl rfl)
theorem dX5_heard_35 : decode cX5_heard 35 = .ok (.aload_n 0, 1) := dk_42 (dk_at dksX5_heard_1 11 rfl rfl)
theorem dX5_heard_36 : decode cX5_heard 36 = .ok (.getfield 69, 3) := dk_180 0 69 (dk_at dksX5_heard_1 12 rfl rfl)
theorem dX5_heard_39 : decode cX5_heard 39 = .ok (.iload_n 3, 1) := dk_29 (dk_at dksX5_heard_1 15 rfl rfl)
theorem dX5_heard_40 : decode cX5_heard 40 = .ok (.iaload, 1) := dk_46 (dk_at dksX5_heard_1 16 rfl rfl)
theorem dX5_heard_41 : decode cX5_heard 41 = .ok (.aload_n 0, 1) := dk_42 (dk_at dksX5_heard_1 17 rfl rfl)
theorem dX5_heard_42 : decode cX5_heard 42 = .ok (.getfield 33, 3) := dk_180 0 33 (dk_at dksX5_heard_1 18 rfl rfl)
theorem dX5_heard_45 : decode cX5_heard 45 = .ok (.bipush 106, 2) := dk_16 106 (dk_at dksX5_heard_1 21 rfl rfl)
theorem dX5_heard_47 : decode cX5_heard 47 = .ok (.iaload, 1) := dk_46 (dk_at dksX5_heard_1 23 rfl rfl)
theorem dX5_heard_48 : decode cX5_heard 48 = .ok (.if_icmp .gt 9, 3) := dk_163 0 9 (dk_at dksX5_heard_2 0 rfl rfl)
theorem dX5_heard_51 : decode cX5_heard 51 = .ok (.iconst 1, 1) := dk_4 (dk_at dksX5_heard_2 3 rfl rfl)
theorem dX5_heard_52 : decode cX5_heard 52 = .ok (.iload_n 3, 1) := dk_29 (dk_at dksX5_heard_2 4 rfl rfl)
theorem dX5_heard_53 : decode cX5_heard 53 = .ok (.ishl, 1) := dk_120 (dk_at dksX5_heard_2 5 rfl rfl)
theorem dX5_heard_54 : decode cX5_heard 54 = .ok (.goto 4, 3) := dk_167 0 4 (dk_at dksX5_heard_2 6 rfl rfl)
theorem dX5_heard_57 : decode cX5_heard 57 = .ok (.iconst 0, 1) := dk_3 (dk_at dksX5_heard_2 9 rfl rfl)
theorem dX5_heard_58 : decode cX5_heard 58 = .ok (.ior, 1) := dk_128 (dk_at dksX5_heard_2 10 rfl rfl)
theorem dX5_heard_59 : decode cX5_heard 59 = .ok (.istore_n 2, 1) := dk_61 (dk_at dksX5_heard_2 11 rfl rfl)
theorem dX5_heard_60 : decode cX5_heard 60 = .ok (.iinc 3 1, 3) := dk_132 3 1 (dk_at dksX5_heard_2 12 rfl rfl)
theorem dX5_heard_63 : decode cX5_heard 63 = .ok (.goto (-39), 3) := dk_167 255 217 (dk_at dksX5_heard_2 15 rfl rfl)
theorem dX5_heard_66 : decode cX5_heard 66 = .ok (.iload_n 2, 1) := dk_28 (dk_at dksX5_heard_2 18 rfl rfl)
theorem dX5_heard_67 : decode cX5_heard 67 = .ok (.ireturn, 1) := dk_172 (dk_at dksX5_heard_2 19 rfl rfl)
abbrev cX5_dry : ByteArray := prog_26_method_92_code
def yX5_dry : MethodName := ⟨RX5, "dry", "()I"⟩
def dkwX5_dry_2 : List UInt8 := [167, 255, 227, 27, 172]
abbrev dktX5_dry_2 : List UInt8 := dkwX5_dry_2 ++ []
def dkwX5_dry_1 : List UInt8 := [46, 162, 0, 25, 27, 4, 42, 180, 0, 33, 16, 16, 28, 96, 46, 120, 2, 130, 126, 60, 132, 2, 1]
abbrev dktX5_dry_1 : List UInt8 := dkwX5_dry_1 ++ dktX5_dry_2
def dkwX5_dry_0 : List UInt8 := [42, 3, 181, 0, 1, 4, 42, 180, 0, 33, 4, 46, 120, 4, 100, 60, 3, 61, 28, 42, 180, 0, 33, 6]
abbrev dktX5_dry_0 : List UInt8 := dkwX5_dry_0 ++ dktX5_dry_1
theorem dksX5_dry_0 : cX5_dry.data.toList.drop 0 = dktX5_dry_0 := by decide +kernel
theorem dksX5_dry_1 : cX5_dry.data.toList.drop 24 = dktX5_dry_1 := dk_seg dksX5_dry_0 24 rfl rfl
theorem dksX5_dry_2 : cX5_dry.data.toList.drop 47 = dktX5_dry_2 := dk_seg dksX5_dry_1 23 rfl rfl
theorem dX5_dry_0 : decode cX5_dry 0 = .ok (.aload_n 0, 1) := dk_42 (dk_at dksX5_dry_0 0 rfl rfl)
theorem dX5_dry_1 : decode cX5_dry 1 = .ok (.iconst 0, 1) := dk_3 (dk_at dksX5_dry_0 1 rfl rfl)
theorem dX5_dry_2 : decode cX5_dry 2 = .ok (.putfield 1, 3) := dk_181 0 1 (dk_at dksX5_dry_0 2 rfl rfl)
theorem dX5_dry_5 : decode cX5_dry 5 = .ok (.iconst 1, 1) := dk_4 (dk_at dksX5_dry_0 5 rfl rfl)
theorem dX5_dry_6 : decode cX5_dry 6 = .ok (.aload_n 0, 1) := dk_42 (dk_at dksX5_dry_0 6 rfl rfl)
theorem dX5_dry_7 : decode cX5_dry 7 = .ok (.getfield 33, 3) := dk_180 0 33 (dk_at dksX5_dry_0 7 rfl rfl)
theorem dX5_dry_10 : decode cX5_dry 10 = .ok (.iconst 1, 1) := dk_4 (dk_at dksX5_dry_0 10 rfl rfl)
theorem dX5_dry_11 : decode cX5_dry 11 = .ok (.iaload, 1) := dk_46 (dk_at dksX5_dry_0 11 rfl rfl)
theorem dX5_dry_12 : decode cX5_dry 12 = .ok (.ishl, 1) := dk_120 (dk_at dksX5_dry_0 12 rfl rfl)
theorem dX5_dry_13 : decode cX5_dry 13 = .ok (.iconst 1, 1) := dk_4 (dk_at dksX5_dry_0 13 rfl rfl)
theorem dX5_dry_14 : decode cX5_dry 14 = .ok (.isub, 1) := dk_100 (dk_at dksX5_dry_0 14 rfl rfl)
theorem dX5_dry_15 : decode cX5_dry 15 = .ok (.istore_n 1, 1) := dk_60 (dk_at dksX5_dry_0 15 rfl rfl)
theorem dX5_dry_16 : decode cX5_dry 16 = .ok (.iconst 0, 1) := dk_3 (dk_at dksX5_dry_0 16 rfl rfl)
theorem dX5_dry_17 : decode cX5_dry 17 = .ok (.istore_n 2, 1) := dk_61 (dk_at dksX5_dry_0 17 rfl rfl)
theorem dX5_dry_18 : decode cX5_dry 18 = .ok (.iload_n 2, 1) := dk_28 (dk_at dksX5_dry_0 18 rfl rfl)
theorem dX5_dry_19 : decode cX5_dry 19 = .ok (.aload_n 0, 1) := dk_42 (dk_at dksX5_dry_0 19 rfl rfl)
theorem dX5_dry_20 : decode cX5_dry 20 = .ok (.getfield 33, 3) := dk_180 0 33 (dk_at dksX5_dry_0 20 rfl rfl)
theorem dX5_dry_23 : decode cX5_dry 23 = .ok (.iconst 3, 1) := dk_6 (dk_at dksX5_dry_0 23 rfl rfl)
theorem dX5_dry_24 : decode cX5_dry 24 = .ok (.iaload, 1) := dk_46 (dk_at dksX5_dry_1 0 rfl rfl)
theorem dX5_dry_25 : decode cX5_dry 25 = .ok (.if_icmp .ge 25, 3) := dk_162 0 25 (dk_at dksX5_dry_1 1 rfl rfl)
theorem dX5_dry_28 : decode cX5_dry 28 = .ok (.iload_n 1, 1) := dk_27 (dk_at dksX5_dry_1 4 rfl rfl)
theorem dX5_dry_29 : decode cX5_dry 29 = .ok (.iconst 1, 1) := dk_4 (dk_at dksX5_dry_1 5 rfl rfl)
theorem dX5_dry_30 : decode cX5_dry 30 = .ok (.aload_n 0, 1) := dk_42 (dk_at dksX5_dry_1 6 rfl rfl)
theorem dX5_dry_31 : decode cX5_dry 31 = .ok (.getfield 33, 3) := dk_180 0 33 (dk_at dksX5_dry_1 7 rfl rfl)
theorem dX5_dry_34 : decode cX5_dry 34 = .ok (.bipush 16, 2) := dk_16 16 (dk_at dksX5_dry_1 10 rfl rfl)
theorem dX5_dry_36 : decode cX5_dry 36 = .ok (.iload_n 2, 1) := dk_28 (dk_at dksX5_dry_1 12 rfl rfl)
theorem dX5_dry_37 : decode cX5_dry 37 = .ok (.iadd, 1) := dk_96 (dk_at dksX5_dry_1 13 rfl rfl)
theorem dX5_dry_38 : decode cX5_dry 38 = .ok (.iaload, 1) := dk_46 (dk_at dksX5_dry_1 14 rfl rfl)
theorem dX5_dry_39 : decode cX5_dry 39 = .ok (.ishl, 1) := dk_120 (dk_at dksX5_dry_1 15 rfl rfl)
theorem dX5_dry_40 : decode cX5_dry 40 = .ok (.iconst (-1), 1) := dk_2 (dk_at dksX5_dry_1 16 rfl rfl)
theorem dX5_dry_41 : decode cX5_dry 41 = .ok (.ixor, 1) := dk_130 (dk_at dksX5_dry_1 17 rfl rfl)
theorem dX5_dry_42 : decode cX5_dry 42 = .ok (.iand, 1) := dk_126 (dk_at dksX5_dry_1 18 rfl rfl)
theorem dX5_dry_43 : decode cX5_dry 43 = .ok (.istore_n 1, 1) := dk_60 (dk_at dksX5_dry_1 19 rfl rfl)
theorem dX5_dry_44 : decode cX5_dry 44 = .ok (.iinc 2 1, 3) := dk_132 2 1 (dk_at dksX5_dry_1 20 rfl rfl)
theorem dX5_dry_47 : decode cX5_dry 47 = .ok (.goto (-29), 3) := dk_167 255 227 (dk_at dksX5_dry_2 0 rfl rfl)
theorem dX5_dry_50 : decode cX5_dry 50 = .ok (.iload_n 1, 1) := dk_27 (dk_at dksX5_dry_2 3 rfl rfl)
theorem dX5_dry_51 : decode cX5_dry 51 = .ok (.ireturn, 1) := dk_172 (dk_at dksX5_dry_2 4 rfl rfl)
abbrev cX5_windows : ByteArray := prog_26_method_95_code
def yX5_windows : MethodName := ⟨RX5, "windows", "(III)I"⟩
def dkwX5_windows_0 : List UInt8 := [42, 3, 181, 0, 1, 42, 27, 28, 29, 182, 1, 123, 153, 0, 10, 42, 180, 1, 113, 167, 0, 4, 2, 172]
abbrev dktX5_windows_0 : List UInt8 := dkwX5_windows_0 ++ []
theorem dksX5_windows_0 : cX5_windows.data.toList.drop 0 = dktX5_windows_0 := by decide +kernel
theorem dX5_windows_0 : decode cX5_windows 0 = .ok (.aload_n 0, 1) := dk_42 (dk_at dksX5_windows_0 0 rfl rfl)
theorem dX5_windows_1 : decode cX5_windows 1 = .ok (.iconst 0, 1) := dk_3 (dk_at dksX5_windows_0 1 rfl rfl)
theorem dX5_windows_2 : decode cX5_windows 2 = .ok (.putfield 1, 3) := dk_181 0 1 (dk_at dksX5_windows_0 2 rfl rfl)
theorem dX5_windows_5 : decode cX5_windows 5 = .ok (.aload_n 0, 1) := dk_42 (dk_at dksX5_windows_0 5 rfl rfl)
theorem dX5_windows_6 : decode cX5_windows 6 = .ok (.iload_n 1, 1) := dk_27 (dk_at dksX5_windows_0 6 rfl rfl)
theorem dX5_windows_7 : decode cX5_windows 7 = .ok (.iload_n 2, 1) := dk_28 (dk_at dksX5_windows_0 7 rfl rfl)
theorem dX5_windows_8 : decode cX5_windows 8 = .ok (.iload_n 3, 1) := dk_29 (dk_at dksX5_windows_0 8 rfl rfl)
theorem dX5_windows_9 : decode cX5_windows 9 = .ok (.invokevirtual 379, 3) := dk_182 1 123 (dk_at dksX5_windows_0 9 rfl rfl)
theorem dX5_windows_12 : decode cX5_windows 12 = .ok (.ifCond .eq 10, 3) := dk_153 0 10 (dk_at dksX5_windows_0 12 rfl rfl)
theorem dX5_windows_15 : decode cX5_windows 15 = .ok (.aload_n 0, 1) := dk_42 (dk_at dksX5_windows_0 15 rfl rfl)
theorem dX5_windows_16 : decode cX5_windows 16 = .ok (.getfield 369, 3) := dk_180 1 113 (dk_at dksX5_windows_0 16 rfl rfl)
theorem dX5_windows_19 : decode cX5_windows 19 = .ok (.goto 4, 3) := dk_167 0 4 (dk_at dksX5_windows_0 19 rfl rfl)
theorem dX5_windows_22 : decode cX5_windows 22 = .ok (.iconst (-1), 1) := dk_2 (dk_at dksX5_windows_0 22 rfl rfl)
theorem dX5_windows_23 : decode cX5_windows 23 = .ok (.ireturn, 1) := dk_172 (dk_at dksX5_windows_0 23 rfl rfl)
abbrev cX5_looksForWindows : ByteArray := prog_26_method_94_code
def yX5_looksForWindows : MethodName := ⟨RX5, "looksForWindows", "(III)Z"⟩
def dkwX5_looksForWindows_5 : List UInt8 := [181, 1, 116, 132, 5, 1, 167, 255, 187, 132, 4, 1, 167, 255, 167, 4, 172]
abbrev dktX5_looksForWindows_5 : List UInt8 := dkwX5_looksForWindows_5 ++ []
def dkwX5_looksForWindows_4 : List UInt8 := [181, 1, 113, 42, 180, 1, 116, 156, 0, 18, 42, 16, 100, 21, 5, 104, 21, 5, 96, 21, 4, 96]
abbrev dktX5_looksForWindows_4 : List UInt8 := dkwX5_looksForWindows_4 ++ dktX5_looksForWindows_5
def dkwX5_looksForWindows_3 : List UInt8 := [21, 5, 21, 5, 21, 4, 96, 182, 1, 119, 154, 0, 6, 167, 0, 35, 42, 89, 180, 1, 113, 4, 96]
abbrev dktX5_looksForWindows_3 : List UInt8 := dkwX5_looksForWindows_3 ++ dktX5_looksForWindows_4
def dkwX5_looksForWindows_2 : List UInt8 := [162, 0, 84, 3, 54, 5, 21, 5, 21, 4, 96, 42, 180, 0, 33, 3, 46, 162, 0, 61, 42, 27, 28, 29]
abbrev dktX5_looksForWindows_2 : List UInt8 := dkwX5_looksForWindows_2 ++ dktX5_looksForWindows_3
def dkwX5_looksForWindows_1 : List UInt8 := [3, 172, 42, 3, 181, 1, 113, 42, 2, 181, 1, 116, 3, 54, 4, 21, 4, 42, 180, 0, 33, 3, 46]
abbrev dktX5_looksForWindows_1 : List UInt8 := dkwX5_looksForWindows_1 ++ dktX5_looksForWindows_2
def dkwX5_looksForWindows_0 : List UInt8 := [42, 27, 182, 0, 251, 153, 0, 19, 42, 28, 182, 1, 20, 153, 0, 11, 42, 29, 182, 0, 254, 154, 0, 5]
abbrev dktX5_looksForWindows_0 : List UInt8 := dkwX5_looksForWindows_0 ++ dktX5_looksForWindows_1
theorem dksX5_looksForWindows_0 : cX5_looksForWindows.data.toList.drop 0 = dktX5_looksForWindows_0 := by decide +kernel
theorem dksX5_looksForWindows_1 : cX5_looksForWindows.data.toList.drop 24 = dktX5_looksForWindows_1 := dk_seg dksX5_looksForWindows_0 24 rfl rfl
theorem dksX5_looksForWindows_2 : cX5_looksForWindows.data.toList.drop 47 = dktX5_looksForWindows_2 := dk_seg dksX5_looksForWindows_1 23 rfl rfl
theorem dksX5_looksForWindows_3 : cX5_looksForWindows.data.toList.drop 71 = dktX5_looksForWindows_3 := dk_seg dksX5_looksForWindows_2 24 rfl rfl
theorem dksX5_looksForWindows_4 : cX5_looksForWindows.data.toList.drop 94 = dktX5_looksForWindows_4 := dk_seg dksX5_looksForWindows_3 23 rfl rfl
theorem dksX5_looksForWindows_5 : cX5_looksForWindows.data.toList.drop 116 = dktX5_looksForWindows_5 := dk_seg dksX5_looksForWindows_4 22 rfl rfl
theorem dX5_looksForWindows_0 : decode cX5_looksForWindows 0 = .ok (.aload_n 0, 1) := dk_42 (dk_at dksX5_looksForWindows_0 0 rfl rfl)
theorem dX5_looksForWindows_1 : decode cX5_looksForWindows 1 = .ok (.iload_n 1, 1) := dk_27 (dk_at dksX5_looksForWindows_0 1 rfl rfl)
theorem dX5_looksForWindows_2 : decode cX5_looksForWindows 2 = .ok (.invokevirtual 251, 3) := dk_182 0 251 (dk_at dksX5_looksForWindows_0 2 rfl rfl)
theorem dX5_looksForWindows_5 : decode cX5_looksForWindows 5 = .ok (.ifCond .eq 19, 3) := dk_153 0 19 (dk_at dksX5_looksForWindows_0 5 rfl rfl)
theorem dX5_looksForWindows_8 : decode cX5_looksForWindows 8 = .ok (.aload_n 0, 1) := dk_42 (dk_at dksX5_looksForWindows_0 8 rfl rfl)
theorem dX5_looksForWindows_9 : decode cX5_looksForWindows 9 = .ok (.iload_n 2, 1) := dk_28 (dk_at dksX5_looksForWindows_0 9 rfl rfl)
theorem dX5_looksForWindows_10 : decode cX5_looksForWindows 10 = .ok (.invokevirtual 276, 3) := dk_182 1 20 (dk_at dksX5_looksForWindows_0 10 rfl rfl)
theorem dX5_looksForWindows_13 : decode cX5_looksForWindows 13 = .ok (.ifCond .eq 11, 3) := dk_153 0 11 (dk_at dksX5_looksForWindows_0 13 rfl rfl)
theorem dX5_looksForWindows_16 : decode cX5_looksForWindows 16 = .ok (.aload_n 0, 1) := dk_42 (dk_at dksX5_looksForWindows_0 16 rfl rfl)
theorem dX5_looksForWindows_17 : decode cX5_looksForWindows 17 = .ok (.iload_n 3, 1) := dk_29 (dk_at dksX5_looksForWindows_0 17 rfl rfl)
theorem dX5_looksForWindows_18 : decode cX5_looksForWindows 18 = .ok (.invokevirtual 254, 3) := dk_182 0 254 (dk_at dksX5_looksForWindows_0 18 rfl rfl)
theorem dX5_looksForWindows_21 : decode cX5_looksForWindows 21 = .ok (.ifCond .ne 5, 3) := dk_154 0 5 (dk_at dksX5_looksForWindows_0 21 rfl rfl)
theorem dX5_looksForWindows_24 : decode cX5_looksForWindows 24 = .ok (.iconst 0, 1) := dk_3 (dk_at dksX5_looksForWindows_1 0 rfl rfl)
theorem dX5_looksForWindows_25 : decode cX5_looksForWindows 25 = .ok (.ireturn, 1) := dk_172 (dk_at dksX5_looksForWindows_1 1 rfl rfl)
theorem dX5_looksForWindows_26 : decode cX5_looksForWindows 26 = .ok (.aload_n 0, 1) := dk_42 (dk_at dksX5_looksForWindows_1 2 rfl rfl)
theorem dX5_looksForWindows_27 : decode cX5_looksForWindows 27 = .ok (.iconst 0, 1) := dk_3 (dk_at dksX5_looksForWindows_1 3 rfl rfl)
theorem dX5_looksForWindows_28 : decode cX5_looksForWindows 28 = .ok (.putfield 369, 3) := dk_181 1 113 (dk_at dksX5_looksForWindows_1 4 rfl rfl)
theorem dX5_looksForWindows_31 : decode cX5_looksForWindows 31 = .ok (.aload_n 0, 1) := dk_42 (dk_at dksX5_looksForWindows_1 7 rfl rfl)
theorem dX5_looksForWindows_32 : decode cX5_looksForWindows 32 = .ok (.iconst (-1), 1) := dk_2 (dk_at dksX5_looksForWindows_1 8 rfl rfl)
theorem dX5_looksForWindows_33 : decode cX5_looksForWindows 33 = .ok (.putfield 372, 3) := dk_181 1 116 (dk_at dksX5_looksForWindows_1 9 rfl rfl)
theorem dX5_looksForWindows_36 : decode cX5_looksForWindows 36 = .ok (.iconst 0, 1) := dk_3 (dk_at dksX5_looksForWindows_1 12 rfl rfl)
theorem dX5_looksForWindows_37 : decode cX5_looksForWindows 37 = .ok (.istore 4, 2) := dk_54 4 (dk_at dksX5_looksForWindows_1 13 rfl rfl)
theorem dX5_looksForWindows_39 : decode cX5_looksForWindows 39 = .ok (.iload 4, 2) := dk_21 4 (dk_at dksX5_looksForWindows_1 15 rfl rfl)
theorem dX5_looksForWindows_41 : decode cX5_looksForWindows 41 = .ok (.aload_n 0, 1) := dk_42 (dk_at dksX5_looksForWindows_1 17 rfl rfl)
theorem dX5_looksForWindows_42 : decode cX5_looksForWindows 42 = .ok (.getfield 33, 3) := dk_180 0 33 (dk_at dksX5_looksForWindows_1 18 rfl rfl)
theorem dX5_looksForWindows_45 : decode cX5_looksForWindows 45 = .ok (.iconst 0, 1) := dk_3 (dk_at dksX5_looksForWindows_1 21 rfl rfl)
theorem dX5_looksForWindows_46 : decode cX5_looksForWindows 46 = .ok (.iaload, 1) := dk_46 (dk_at dksX5_looksForWindows_1 22 rfl rfl)
theorem dX5_looksForWindows_47 : decode cX5_looksForWindows 47 = .ok (.if_icmp .ge 84, 3) := dk_162 0 84 (dk_at dksX5_looksForWindows_2 0 rfl rfl)
theorem dX5_looksForWindows_50 : decode cX5_looksForWindows 50 = .ok (.iconst 0, 1) := dk_3 (dk_at dksX5_looksForWindows_2 3 rfl rfl)
theorem dX5_looksForWindows_51 : decode cX5_looksForWindows 51 = .ok (.istore 5, 2) := dk_54 5 (dk_at dksX5_looksForWindows_2 4 rfl rfl)
theorem dX5_looksForWindows_53 : decode cX5_looksForWindows 53 = .ok (.iload 5, 2) := dk_21 5 (dk_at dksX5_looksForWindows_2 6 rfl rfl)
theorem dX5_looksForWindows_55 : decode cX5_looksForWindows 55 = .ok (.iload 4, 2) := dk_21 4 (dk_at dksX5_looksForWindows_2 8 rfl rfl)
theorem dX5_looksForWindows_57 : decode cX5_looksForWindows 57 = .ok (.iadd, 1) := dk_96 (dk_at dksX5_looksForWindows_2 10 rfl rfl)
theorem dX5_looksForWindows_58 : decode cX5_looksForWindows 58 = .ok (.aload_n 0, 1) := dk_42 (dk_at dksX5_looksForWindows_2 11 rfl rfl)
theorem dX5_looksForWindows_59 : decode cX5_looksForWindows 59 = .ok (.getfield 33, 3) := dk_180 0 33 (dk_at dksX5_looksForWindows_2 12 rfl rfl)
theorem dX5_looksForWindows_62 : decode cX5_looksForWindows 62 = .ok (.iconst 0, 1) := dk_3 (dk_at dksX5_looksForWindows_2 15 rfl rfl)
theorem dX5_looksForWindows_63 : decode cX5_looksForWindows 63 = .ok (.iaload, 1) := dk_46 (dk_at dksX5_looksForWindows_2 16 rfl rfl)
theorem dX5_looksForWindows_64 : decode cX5_looksForWindows 64 = .ok (.if_icmp .ge 61, 3) := dk_162 0 61 (dk_at dksX5_looksForWindows_2 17 rfl rfl)
theorem dX5_looksForWindows_67 : decode cX5_looksForWindows 67 = .ok (.aload_n 0, 1) := dk_42 (dk_at dksX5_looksForWindows_2 20 rfl rfl)
theorem dX5_looksForWindows_68 : decode cX5_looksForWindows 68 = .ok (.iload_n 1, 1) := dk_27 (dk_at dksX5_looksForWindows_2 21 rfl rfl)
theorem dX5_looksForWindows_69 : decode cX5_looksForWindows 69 = .ok (.iload_n 2, 1) := dk_28 (dk_at dksX5_looksForWindows_2 22 rfl rfl)
theorem dX5_looksForWindows_70 : decode cX5_looksForWindows 70 = .ok (.iload_n 3, 1) := dk_29 (dk_at dksX5_looksForWindows_2 23 rfl rfl)
theorem dX5_looksForWindows_71 : decode cX5_looksForWindows 71 = .ok (.iload 5, 2) := dk_21 5 (dk_at dksX5_looksForWindows_3 0 rfl rfl)
theorem dX5_looksForWindows_73 : decode cX5_looksForWindows 73 = .ok (.iload 5, 2) := dk_21 5 (dk_at dksX5_looksForWindows_3 2 rfl rfl)
theorem dX5_looksForWindows_75 : decode cX5_looksForWindows 75 = .ok (.iload 4, 2) := dk_21 4 (dk_at dksX5_looksForWindows_3 4 rfl rfl)
theorem dX5_looksForWindows_77 : decode cX5_looksForWindows 77 = .ok (.iadd, 1) := dk_96 (dk_at dksX5_looksForWindows_3 6 rfl rfl)
theorem dX5_looksForWindows_78 : decode cX5_looksForWindows 78 = .ok (.invokevirtual 375, 3) := dk_182 1 119 (dk_at dksX5_looksForWindows_3 7 rfl rfl)
theorem dX5_looksForWindows_81 : decode cX5_looksForWindows 81 = .ok (.ifCond .ne 6, 3) := dk_154 0 6 (dk_at dksX5_looksForWindows_3 10 rfl rfl)
theorem dX5_looksForWindows_84 : decode cX5_looksForWindows 84 = .ok (.goto 35, 3) := dk_167 0 35 (dk_at dksX5_looksForWindows_3 13 rfl rfl)
theorem dX5_looksForWindows_87 : decode cX5_looksForWindows 87 = .ok (.aload_n 0, 1) := dk_42 (dk_at dksX5_looksForWindows_3 16 rfl rfl)
theorem dX5_looksForWindows_88 : decode cX5_looksForWindows 88 = .ok (.dup, 1) := dk_89 (dk_at dksX5_looksForWindows_3 17 rfl rfl)
theorem dX5_looksForWindows_89 : decode cX5_looksForWindows 89 = .ok (.getfield 369, 3) := dk_180 1 113 (dk_at dksX5_looksForWindows_3 18 rfl rfl)
theorem dX5_looksForWindows_92 : decode cX5_looksForWindows 92 = .ok (.iconst 1, 1) := dk_4 (dk_at dksX5_looksForWindows_3 21 rfl rfl)
theorem dX5_looksForWindows_93 : decode cX5_looksForWindows 93 = .ok (.iadd, 1) := dk_96 (dk_at dksX5_looksForWindows_3 22 rfl rfl)
theorem dX5_looksForWindows_94 : decode cX5_looksForWindows 94 = .ok (.putfield 369, 3) := dk_181 1 113 (dk_at dksX5_looksForWindows_4 0 rfl rfl)
theorem dX5_looksForWindows_97 : decode cX5_looksForWindows 97 = .ok (.aload_n 0, 1) := dk_42 (dk_at dksX5_looksForWindows_4 3 rfl rfl)
theorem dX5_looksForWindows_98 : decode cX5_looksForWindows 98 = .ok (.getfield 372, 3) := dk_180 1 116 (dk_at dksX5_looksForWindows_4 4 rfl rfl)
theorem dX5_looksForWindows_101 : decode cX5_looksForWindows 101 = .ok (.ifCond .ge 18, 3) := dk_156 0 18 (dk_at dksX5_looksForWindows_4 7 rfl rfl)
theorem dX5_looksForWindows_104 : decode cX5_looksForWindows 104 = .ok (.aload_n 0, 1) := dk_42 (dk_at dksX5_looksForWindows_4 10 rfl rfl)
theorem dX5_looksForWindows_105 : decode cX5_looksForWindows 105 = .ok (.bipush 100, 2) := dk_16 100 (dk_at dksX5_looksForWindows_4 11 rfl rfl)
theorem dX5_looksForWindows_107 : decode cX5_looksForWindows 107 = .ok (.iload 5, 2) := dk_21 5 (dk_at dksX5_looksForWindows_4 13 rfl rfl)
theorem dX5_looksForWindows_109 : decode cX5_looksForWindows 109 = .ok (.imul, 1) := dk_104 (dk_at dksX5_looksForWindows_4 15 rfl rfl)
theorem dX5_looksForWindows_110 : decode cX5_looksForWindows 110 = .ok (.iload 5, 2) := dk_21 5 (dk_at dksX5_looksForWindows_4 16 rfl rfl)
theorem dX5_looksForWindows_112 : decode cX5_looksForWindows 112 = .ok (.iadd, 1) := dk_96 (dk_at dksX5_looksForWindows_4 18 rfl rfl)
theorem dX5_looksForWindows_113 : decode cX5_looksForWindows 113 = .ok (.iload 4, 2) := dk_21 4 (dk_at dksX5_looksForWindows_4 19 rfl rfl)
theorem dX5_looksForWindows_115 : decode cX5_looksForWindows 115 = .ok (.iadd, 1) := dk_96 (dk_at dksX5_looksForWindows_4 21 rfl rfl)
theorem dX5_looksForWindows_116 : decode cX5_looksForWindows 116 = .ok (.putfield 372, 3) := dk_181 1 116 (dk_at dksX5_looksForWindows_5 0 rfl rfl)
theorem dX5_looksForWindows_119 : decode cX5_looksForWindows 119 = .ok (.iinc 5 1, 3) := dk_132 5 1 (dk_at dksX5_looksForWindows_5 3 rfl rfl)
theorem dX5_looksForWindows_122 : decode cX5_looksForWindows 122 = .ok (.goto (-69), 3) := dk_167 255 187 (dk_at dksX5_looksForWindows_5 6 rfl rfl)
theorem dX5_looksForWindows_125 : decode cX5_looksForWindows 125 = .ok (.iinc 4 1, 3) := dk_132 4 1 (dk_at dksX5_looksForWindows_5 9 rfl rfl)
theorem dX5_looksForWindows_128 : decode cX5_looksForWindows 128 = .ok (.goto (-89), 3) := dk_167 255 167 (dk_at dksX5_looksForWindows_5 12 rfl rfl)
theorem dX5_looksForWindows_131 : decode cX5_looksForWindows 131 = .ok (.iconst 1, 1) := dk_4 (dk_at dksX5_looksForWindows_5 15 rfl rfl)
theorem dX5_looksForWindows_132 : decode cX5_looksForWindows 132 = .ok (.ireturn, 1) := dk_172 (dk_at dksX5_looksForWindows_5 16 rfl rfl)
abbrev cX5_fits : ByteArray := prog_26_method_93_code
def yX5_fits : MethodName := ⟨RX5, "fits", "(IIIII)Z"⟩
def dkwX5_fits_5 : List UInt8 := [3, 54, 7, 132, 8, 1, 167, 255, 153, 21, 7, 154, 0, 5, 3, 172, 132, 6, 1, 167, 255, 125, 4, 172]
abbrev dktX5_fits_5 : List UInt8 := dkwX5_fits_5 ++ []
def dkwX5_fits_4 : List UInt8 := [21, 6, 42, 180, 0, 33, 3, 46, 104, 100, 21, 4, 21, 5, 184, 0, 187, 153, 0, 7, 4, 167, 0, 4]
abbrev dktX5_fits_4 : List UInt8 := dkwX5_fits_4 ++ dktX5_fits_5
def dkwX5_fits_3 : List UInt8 := [160, 0, 47, 42, 180, 0, 33, 21, 9, 6, 96, 46, 29, 160, 0, 34, 42, 180, 0, 33, 21, 9, 46]
abbrev dktX5_fits_3 : List UInt8 := dkwX5_fits_3 ++ dktX5_fits_4
def dkwX5_fits_2 : List UInt8 := [180, 0, 33, 21, 9, 4, 96, 46, 27, 160, 0, 60, 42, 180, 0, 33, 21, 9, 5, 96, 46, 28]
abbrev dktX5_fits_2 : List UInt8 := dkwX5_fits_2 ++ dktX5_fits_3
def dkwX5_fits_1 : List UInt8 := [16, 123, 46, 162, 0, 97, 17, 0, 148, 7, 21, 8, 104, 96, 54, 9, 21, 7, 154, 0, 69, 42]
abbrev dktX5_fits_1 : List UInt8 := dkwX5_fits_1 ++ dktX5_fits_2
def dkwX5_fits_0 : List UInt8 := [3, 54, 6, 21, 6, 42, 182, 1, 4, 162, 0, 128, 3, 54, 7, 3, 54, 8, 21, 8, 42, 180, 0, 33]
abbrev dktX5_fits_0 : List UInt8 := dkwX5_fits_0 ++ dktX5_fits_1
theorem dksX5_fits_0 : cX5_fits.data.toList.drop 0 = dktX5_fits_0 := by decide +kernel
theorem dksX5_fits_1 : cX5_fits.data.toList.drop 24 = dktX5_fits_1 := dk_seg dksX5_fits_0 24 rfl rfl
theorem dksX5_fits_2 : cX5_fits.data.toList.drop 46 = dktX5_fits_2 := dk_seg dksX5_fits_1 22 rfl rfl
theorem dksX5_fits_3 : cX5_fits.data.toList.drop 68 = dktX5_fits_3 := dk_seg dksX5_fits_2 22 rfl rfl
theorem dksX5_fits_4 : cX5_fits.data.toList.drop 91 = dktX5_fits_4 := dk_seg dksX5_fits_3 23 rfl rfl
theorem dksX5_fits_5 : cX5_fits.data.toList.drop 115 = dktX5_fits_5 := dk_seg dksX5_fits_4 24 rfl rfl
theorem dX5_fits_0 : decode cX5_fits 0 = .ok (.iconst 0, 1) := dk_3 (dk_at dksX5_fits_0 0 rfl rfl)
theorem dX5_fits_1 : decode cX5_fits 1 = .ok (.istore 6, 2) := dk_54 6 (dk_at dksX5_fits_0 1 rfl rfl)
theorem dX5_fits_3 : decode cX5_fits 3 = .ok (.iload 6, 2) := dk_21 6 (dk_at dksX5_fits_0 3 rfl rfl)
theorem dX5_fits_5 : decode cX5_fits 5 = .ok (.aload_n 0, 1) := dk_42 (dk_at dksX5_fits_0 5 rfl rfl)
theorem dX5_fits_6 : decode cX5_fits 6 = .ok (.invokevirtual 260, 3) := dk_182 1 4 (dk_at dksX5_fits_0 6 rfl rfl)
theorem dX5_fits_9 : decode cX5_fits 9 = .ok (.if_icmp .ge 128, 3) := dk_162 0 128 (dk_at dksX5_fits_0 9 rfl rfl)
theorem dX5_fits_12 : decode cX5_fits 12 = .ok (.iconst 0, 1) := dk_3 (dk_at dksX5_fits_0 12 rfl rfl)
theorem dX5_fits_13 : decode cX5_fits 13 = .ok (.istore 7, 2) := dk_54 7 (dk_at dksX5_fits_0 13 rfl rfl)
theorem dX5_fits_15 : decode cX5_fits 15 = .ok (.iconst 0, 1) := dk_3 (dk_at dksX5_fits_0 15 rfl rfl)
theorem dX5_fits_16 : decode cX5_fits 16 = .ok (.istore 8, 2) := dk_54 8 (dk_at dksX5_fits_0 16 rfl rfl)
theorem dX5_fits_18 : decode cX5_fits 18 = .ok (.iload 8, 2) := dk_21 8 (dk_at dksX5_fits_0 18 rfl rfl)
theorem dX5_fits_20 : decode cX5_fits 20 = .ok (.aload_n 0, 1) := dk_42 (dk_at dksX5_fits_0 20 rfl rfl)
theorem dX5_fits_21 : decode cX5_fits 21 = .ok (.getfield 33, 3) := dk_180 0 33 (dk_at dksX5_fits_0 21 rfl rfl)
theorem dX5_fits_24 : decode cX5_fits 24 = .ok (.bipush 123, 2) := dk_16 123 (dk_at dksX5_fits_1 0 rfl rfl)
theorem dX5_fits_26 : decode cX5_fits 26 = .ok (.iaload, 1) := dk_46 (dk_at dksX5_fits_1 2 rfl rfl)
theorem dX5_fits_27 : decode cX5_fits 27 = .ok (.if_icmp .ge 97, 3) := dk_162 0 97 (dk_at dksX5_fits_1 3 rfl rfl)
theorem dX5_fits_30 : decode cX5_fits 30 = .ok (.sipush 148, 3) := dk_17 0 148 (dk_at dksX5_fits_1 6 rfl rfl)
theorem dX5_fits_33 : decode cX5_fits 33 = .ok (.iconst 4, 1) := dk_7 (dk_at dksX5_fits_1 9 rfl rfl)
theorem dX5_fits_34 : decode cX5_fits 34 = .ok (.iload 8, 2) := dk_21 8 (dk_at dksX5_fits_1 10 rfl rfl)
theorem dX5_fits_36 : decode cX5_fits 36 = .ok (.imul, 1) := dk_104 (dk_at dksX5_fits_1 12 rfl rfl)
theorem dX5_fits_37 : decode cX5_fits 37 = .ok (.iadd, 1) := dk_96 (dk_at dksX5_fits_1 13 rfl rfl)
theorem dX5_fits_38 : decode cX5_fits 38 = .ok (.istore 9, 2) := dk_54 9 (dk_at dksX5_fits_1 14 rfl rfl)
theorem dX5_fits_40 : decode cX5_fits 40 = .ok (.iload 7, 2) := dk_21 7 (dk_at dksX5_fits_1 16 rfl rfl)
theorem dX5_fits_42 : decode cX5_fits 42 = .ok (.ifCond .ne 69, 3) := dk_154 0 69 (dk_at dksX5_fits_1 18 rfl rfl)
theorem dX5_fits_45 : decode cX5_fits 45 = .ok (.aload_n 0, 1) := dk_42 (dk_at dksX5_fits_1 21 rfl rfl)
theorem dX5_fits_46 : decode cX5_fits 46 = .ok (.getfield 33, 3) := dk_180 0 33 (dk_at dksX5_fits_2 0 rfl rfl)
theorem dX5_fits_49 : decode cX5_fits 49 = .ok (.iload 9, 2) := dk_21 9 (dk_at dksX5_fits_2 3 rfl rfl)
theorem dX5_fits_51 : decode cX5_fits 51 = .ok (.iconst 1, 1) := dk_4 (dk_at dksX5_fits_2 5 rfl rfl)
theorem dX5_fits_52 : decode cX5_fits 52 = .ok (.iadd, 1) := dk_96 (dk_at dksX5_fits_2 6 rfl rfl)
theorem dX5_fits_53 : decode cX5_fits 53 = .ok (.iaload, 1) := dk_46 (dk_at dksX5_fits_2 7 rfl rfl)
theorem dX5_fits_54 : decode cX5_fits 54 = .ok (.iload_n 1, 1) := dk_27 (dk_at dksX5_fits_2 8 rfl rfl)
theorem dX5_fits_55 : decode cX5_fits 55 = .ok (.if_icmp .ne 60, 3) := dk_160 0 60 (dk_at dksX5_fits_2 9 rfl rfl)
theorem dX5_fits_58 : decode cX5_fits 58 = .ok (.aload_n 0, 1) := dk_42 (dk_at dksX5_fits_2 12 rfl rfl)
theorem dX5_fits_59 : decode cX5_fits 59 = .ok (.getfield 33, 3) := dk_180 0 33 (dk_at dksX5_fits_2 13 rfl rfl)
theorem dX5_fits_62 : decode cX5_fits 62 = .ok (.iload 9, 2) := dk_21 9 (dk_at dksX5_fits_2 16 rfl rfl)
theorem dX5_fits_64 : decode cX5_fits 64 = .ok (.iconst 2, 1) := dk_5 (dk_at dksX5_fits_2 18 rfl rfl)
theorem dX5_fits_65 : decode cX5_fits 65 = .ok (.iadd, 1) := dk_96 (dk_at dksX5_fits_2 19 rfl rfl)
theorem dX5_fits_66 : decode cX5_fits 66 = .ok (.iaload, 1) := dk_46 (dk_at dksX5_fits_2 20 rfl rfl)
theorem dX5_fits_67 : decode cX5_fits 67 = .ok (.iload_n 2, 1) := dk_28 (dk_at dksX5_fits_2 21 rfl rfl)
theorem dX5_fits_68 : decode cX5_fits 68 = .ok (.if_icmp .ne 47, 3) := dk_160 0 47 (dk_at dksX5_fits_3 0 rfl rfl)
theorem dX5_fits_71 : decode cX5_fits 71 = .ok (.aload_n 0, 1) := dk_42 (dk_at dksX5_fits_3 3 rfl rfl)
theorem dX5_fits_72 : decode cX5_fits 72 = .ok (.getfield 33, 3) := dk_180 0 33 (dk_at dksX5_fits_3 4 rfl rfl)
theorem dX5_fits_75 : decode cX5_fits 75 = .ok (.iload 9, 2) := dk_21 9 (dk_at dksX5_fits_3 7 rfl rfl)
theorem dX5_fits_77 : decode cX5_fits 77 = .ok (.iconst 3, 1) := dk_6 (dk_at dksX5_fits_3 9 rfl rfl)
theorem dX5_fits_78 : decode cX5_fits 78 = .ok (.iadd, 1) := dk_96 (dk_at dksX5_fits_3 10 rfl rfl)
theorem dX5_fits_79 : decode cX5_fits 79 = .ok (.iaload, 1) := dk_46 (dk_at dksX5_fits_3 11 rfl rfl)
theorem dX5_fits_80 : decode cX5_fits 80 = .ok (.iload_n 3, 1) := dk_29 (dk_at dksX5_fits_3 12 rfl rfl)
theorem dX5_fits_81 : decode cX5_fits 81 = .ok (.if_icmp .ne 34, 3) := dk_160 0 34 (dk_at dksX5_fits_3 13 rfl rfl)
theorem dX5_fits_84 : decode cX5_fits 84 = .ok (.aload_n 0, 1) := dk_42 (dk_at dksX5_fits_3 16 rfl rfl)
theorem dX5_fits_85 : decode cX5_fits 85 = .ok (.getfield 33, 3) := dk_180 0 33 (dk_at dksX5_fits_3 17 rfl rfl)
theorem dX5_fits_88 : decode cX5_fits 88 = .ok (.iload 9, 2) := dk_21 9 (dk_at dksX5_fits_3 20 rfl rfl)
theorem dX5_fits_90 : decode cX5_fits 90 = .ok (.iaload, 1) := dk_46 (dk_at dksX5_fits_3 22 rfl rfl)
theorem dX5_fits_91 : decode cX5_fits 91 = .ok (.iload 6, 2) := dk_21 6 (dk_at dksX5_fits_4 0 rfl rfl)
theorem dX5_fits_93 : decode cX5_fits 93 = .ok (.aload_n 0, 1) := dk_42 (dk_at dksX5_fits_4 2 rfl rfl)
theorem dX5_fits_94 : decode cX5_fits 94 = .ok (.getfield 33, 3) := dk_180 0 33 (dk_at dksX5_fits_4 3 rfl rfl)
theorem dX5_fits_97 : decode cX5_fits 97 = .ok (.iconst 0, 1) := dk_3 (dk_at dksX5_fits_4 6 rfl rfl)
theorem dX5_fits_98 : decode cX5_fits 98 = .ok (.iaload, 1) := dk_46 (dk_at dksX5_fits_4 7 rfl rfl)
theorem dX5_fits_99 : decode cX5_fits 99 = .ok (.imul, 1) := dk_104 (dk_at dksX5_fits_4 8 rfl rfl)
theorem dX5_fits_100 : decode cX5_fits 100 = .ok (.isub, 1) := dk_100 (dk_at dksX5_fits_4 9 rfl rfl)
theorem dX5_fits_101 : decode cX5_fits 101 = .ok (.iload 4, 2) := dk_21 4 (dk_at dksX5_fits_4 10 rfl rfl)
theorem dX5_fits_103 : decode cX5_fits 103 = .ok (.iload 5, 2) := dk_21 5 (dk_at dksX5_fits_4 12 rfl rfl)
theorem dX5_fits_105 : decode cX5_fits 105 = .ok (.invokestatic 187, 3) := dk_184 0 187 (dk_at dksX5_fits_4 14 rfl rfl)
theorem dX5_fits_108 : decode cX5_fits 108 = .ok (.ifCond .eq 7, 3) := dk_153 0 7 (dk_at dksX5_fits_4 17 rfl rfl)
theorem dX5_fits_111 : decode cX5_fits 111 = .ok (.iconst 1, 1) := dk_4 (dk_at dksX5_fits_4 20 rfl rfl)
theorem dX5_fits_112 : decode cX5_fits 112 = .ok (.goto 4, 3) := dk_167 0 4 (dk_at dksX5_fits_4 21 rfl rfl)
theorem dX5_fits_115 : decode cX5_fits 115 = .ok (.iconst 0, 1) := dk_3 (dk_at dksX5_fits_5 0 rfl rfl)
theorem dX5_fits_116 : decode cX5_fits 116 = .ok (.istore 7, 2) := dk_54 7 (dk_at dksX5_fits_5 1 rfl rfl)
theorem dX5_fits_118 : decode cX5_fits 118 = .ok (.iinc 8 1, 3) := dk_132 8 1 (dk_at dksX5_fits_5 3 rfl rfl)
theorem dX5_fits_121 : decode cX5_fits 121 = .ok (.goto (-103), 3) := dk_167 255 153 (dk_at dksX5_fits_5 6 rfl rfl)
theorem dX5_fits_124 : decode cX5_fits 124 = .ok (.iload 7, 2) := dk_21 7 (dk_at dksX5_fits_5 9 rfl rfl)
theorem dX5_fits_126 : decode cX5_fits 126 = .ok (.ifCond .ne 5, 3) := dk_154 0 5 (dk_at dksX5_fits_5 11 rfl rfl)
theorem dX5_fits_129 : decode cX5_fits 129 = .ok (.iconst 0, 1) := dk_3 (dk_at dksX5_fits_5 14 rfl rfl)
theorem dX5_fits_130 : decode cX5_fits 130 = .ok (.ireturn, 1) := dk_172 (dk_at dksX5_fits_5 15 rfl rfl)
theorem dX5_fits_131 : decode cX5_fits 131 = .ok (.iinc 6 1, 3) := dk_132 6 1 (dk_at dksX5_fits_5 16 rfl rfl)
theorem dX5_fits_134 : decode cX5_fits 134 = .ok (.goto (-131), 3) := dk_167 255 125 (dk_at dksX5_fits_5 19 rfl rfl)
theorem dX5_fits_137 : decode cX5_fits 137 = .ok (.iconst 1, 1) := dk_4 (dk_at dksX5_fits_5 22 rfl rfl)
theorem dX5_fits_138 : decode cX5_fits 138 = .ok (.ireturn, 1) := dk_172 (dk_at dksX5_fits_5 23 rfl rfl)
abbrev cX5_shortest : ByteArray := prog_26_method_96_code
def yX5_shortest : MethodName := ⟨RX5, "shortest", "(III)I"⟩
def dkwX5_shortest_0 : List UInt8 := [42, 3, 181, 0, 1, 42, 27, 28, 29, 182, 1, 123, 153, 0, 10, 42, 180, 1, 116, 167, 0, 4, 2, 172]
abbrev dktX5_shortest_0 : List UInt8 := dkwX5_shortest_0 ++ []
theorem dksX5_shortest_0 : cX5_shortest.data.toList.drop 0 = dktX5_shortest_0 := by decide +kernel
theorem dX5_shortest_0 : decode cX5_shortest 0 = .ok (.aload_n 0, 1) := dk_42 (dk_at dksX5_shortest_0 0 rfl rfl)
theorem dX5_shortest_1 : decode cX5_shortest 1 = .ok (.iconst 0, 1) := dk_3 (dk_at dksX5_shortest_0 1 rfl rfl)
theorem dX5_shortest_2 : decode cX5_shortest 2 = .ok (.putfield 1, 3) := dk_181 0 1 (dk_at dksX5_shortest_0 2 rfl rfl)
theorem dX5_shortest_5 : decode cX5_shortest 5 = .ok (.aload_n 0, 1) := dk_42 (dk_at dksX5_shortest_0 5 rfl rfl)
theorem dX5_shortest_6 : decode cX5_shortest 6 = .ok (.iload_n 1, 1) := dk_27 (dk_at dksX5_shortest_0 6 rfl rfl)
theorem dX5_shortest_7 : decode cX5_shortest 7 = .ok (.iload_n 2, 1) := dk_28 (dk_at dksX5_shortest_0 7 rfl rfl)
theorem dX5_shortest_8 : decode cX5_shortest 8 = .ok (.iload_n 3, 1) := dk_29 (dk_at dksX5_shortest_0 8 rfl rfl)
theorem dX5_shortest_9 : decode cX5_shortest 9 = .ok (.invokevirtual 379, 3) := dk_182 1 123 (dk_at dksX5_shortest_0 9 rfl rfl)
theorem dX5_shortest_12 : decode cX5_shortest 12 = .ok (.ifCond .eq 10, 3) := dk_153 0 10 (dk_at dksX5_shortest_0 12 rfl rfl)
theorem dX5_shortest_15 : decode cX5_shortest 15 = .ok (.aload_n 0, 1) := dk_42 (dk_at dksX5_shortest_0 15 rfl rfl)
theorem dX5_shortest_16 : decode cX5_shortest 16 = .ok (.getfield 372, 3) := dk_180 1 116 (dk_at dksX5_shortest_0 16 rfl rfl)
theorem dX5_shortest_19 : decode cX5_shortest 19 = .ok (.goto 4, 3) := dk_167 0 4 (dk_at dksX5_shortest_0 19 rfl rfl)
theorem dX5_shortest_22 : decode cX5_shortest 22 = .ok (.iconst (-1), 1) := dk_2 (dk_at dksX5_shortest_0 22 rfl rfl)
theorem dX5_shortest_23 : decode cX5_shortest 23 = .ok (.ireturn, 1) := dk_172 (dk_at dksX5_shortest_0 23 rfl rfl)
abbrev cX5_drawn : ByteArray := prog_26_method_99_code
def yX5_drawn : MethodName := ⟨RX5, "drawn", "(II)I"⟩
def dkwX5_drawn_1 : List UInt8 := [2, 172, 42, 182, 1, 7, 153, 0, 5, 3, 172, 42, 182, 1, 13, 42, 27, 28, 182, 1, 133, 172]
abbrev dktX5_drawn_1 : List UInt8 := dkwX5_drawn_1 ++ []
def dkwX5_drawn_0 : List UInt8 := [42, 3, 181, 0, 1, 27, 4, 16, 99, 184, 0, 187, 153, 0, 12, 42, 180, 0, 33, 7, 46, 154, 0, 5]
abbrev dktX5_drawn_0 : List UInt8 := dkwX5_drawn_0 ++ dktX5_drawn_1
theorem dksX5_drawn_0 : cX5_drawn.data.toList.drop 0 = dktX5_drawn_0 := by decide +kernel
theorem dksX5_drawn_1 : cX5_drawn.data.toList.drop 24 = dktX5_drawn_1 := dk_seg dksX5_drawn_0 24 rfl rfl
theorem dX5_drawn_0 : decode cX5_drawn 0 = .ok (.aload_n 0, 1) := dk_42 (dk_at dksX5_drawn_0 0 rfl rfl)
theorem dX5_drawn_1 : decode cX5_drawn 1 = .ok (.iconst 0, 1) := dk_3 (dk_at dksX5_drawn_0 1 rfl rfl)
theorem dX5_drawn_2 : decode cX5_drawn 2 = .ok (.putfield 1, 3) := dk_181 0 1 (dk_at dksX5_drawn_0 2 rfl rfl)
theorem dX5_drawn_5 : decode cX5_drawn 5 = .ok (.iload_n 1, 1) := dk_27 (dk_at dksX5_drawn_0 5 rfl rfl)
theorem dX5_drawn_6 : decode cX5_drawn 6 = .ok (.iconst 1, 1) := dk_4 (dk_at dksX5_drawn_0 6 rfl rfl)
theorem dX5_drawn_7 : decode cX5_drawn 7 = .ok (.bipush 99, 2) := dk_16 99 (dk_at dksX5_drawn_0 7 rfl rfl)
theorem dX5_drawn_9 : decode cX5_drawn 9 = .ok (.invokestatic 187, 3) := dk_184 0 187 (dk_at dksX5_drawn_0 9 rfl rfl)
theorem dX5_drawn_12 : decode cX5_drawn 12 = .ok (.ifCond .eq 12, 3) := dk_153 0 12 (dk_at dksX5_drawn_0 12 rfl rfl)
theorem dX5_drawn_15 : decode cX5_drawn 15 = .ok (.aload_n 0, 1) := dk_42 (dk_at dksX5_drawn_0 15 rfl rfl)
theorem dX5_drawn_16 : decode cX5_drawn 16 = .ok (.getfield 33, 3) := dk_180 0 33 (dk_at dksX5_drawn_0 16 rfl rfl)
theorem dX5_drawn_19 : decode cX5_drawn 19 = .ok (.iconst 4, 1) := dk_7 (dk_at dksX5_drawn_0 19 rfl rfl)
theorem dX5_drawn_20 : decode cX5_drawn 20 = .ok (.iaload, 1) := dk_46 (dk_at dksX5_drawn_0 20 rfl rfl)
theorem dX5_drawn_21 : decode cX5_drawn 21 = .ok (.ifCond .ne 5, 3) := dk_154 0 5 (dk_at dksX5_drawn_0 21 rfl rfl)
theorem dX5_drawn_24 : decode cX5_drawn 24 = .ok (.iconst (-1), 1) := dk_2 (dk_at dksX5_drawn_1 0 rfl rfl)
theorem dX5_drawn_25 : decode cX5_drawn 25 = .ok (.ireturn, 1) := dk_172 (dk_at dksX5_drawn_1 1 rfl rfl)
theorem dX5_drawn_26 : decode cX5_drawn 26 = .ok (.aload_n 0, 1) := dk_42 (dk_at dksX5_drawn_1 2 rfl rfl)
theorem dX5_drawn_27 : decode cX5_drawn 27 = .ok (.invokevirtual 263, 3) := dk_182 1 7 (dk_at dksX5_drawn_1 3 rfl rfl)
theorem dX5_drawn_30 : decode cX5_drawn 30 = .ok (.ifCond .eq 5, 3) := dk_153 0 5 (dk_at dksX5_drawn_1 6 rfl rfl)
theorem dX5_drawn_33 : decode cX5_drawn 33 = .ok (.iconst 0, 1) := dk_3 (dk_at dksX5_drawn_1 9 rfl rfl)
theorem dX5_drawn_34 : decode cX5_drawn 34 = .ok (.ireturn, 1) := dk_172 (dk_at dksX5_drawn_1 10 rfl rfl)
theorem dX5_drawn_35 : decode cX5_drawn 35 = .ok (.aload_n 0, 1) := dk_42 (dk_at dksX5_drawn_1 11 rfl rfl)
theorem dX5_drawn_36 : decode cX5_drawn 36 = .ok (.invokevirtual 269, 3) := dk_182 1 13 (dk_at dksX5_drawn_1 12 rfl rfl)
theorem dX5_drawn_39 : decode cX5_drawn 39 = .ok (.aload_n 0, 1) := dk_42 (dk_at dksX5_drawn_1 15 rfl rfl)
theorem dX5_drawn_40 : decode cX5_drawn 40 = .ok (.iload_n 1, 1) := dk_27 (dk_at dksX5_drawn_1 16 rfl rfl)
theorem dX5_drawn_41 : decode cX5_drawn 41 = .ok (.iload_n 2, 1) := dk_28 (dk_at dksX5_drawn_1 17 rfl rfl)
theorem dX5_drawn_42 : decode cX5_drawn 42 = .ok (.invokevirtual 389, 3) := dk_182 1 133 (dk_at dksX5_drawn_1 18 rfl rfl)
theorem dX5_drawn_45 : decode cX5_drawn 45 = .ok (.ireturn, 1) := dk_172 (dk_at dksX5_drawn_1 21 rfl rfl)
abbrev cX5_draws : ByteArray := prog_26_method_98_code
def yX5_draws : MethodName := ⟨RX5, "draws", "(II)I"⟩
def dkwX5_draws_8 : List UInt8 := [29, 172]
abbrev dktX5_draws_8 : List UInt8 := dkwX5_draws_8 ++ []
def dkwX5_draws_7 : List UInt8 := [42, 21, 4, 21, 6, 182, 1, 33, 132, 4, 1, 167, 255, 101, 42, 182, 1, 36, 132, 3, 1, 167, 255, 76]
abbrev dktX5_draws_7 : List UInt8 := dkwX5_draws_7 ++ dktX5_draws_8
def dkwX5_draws_6 : List UInt8 := [42, 42, 180, 0, 33, 16, 6, 46, 182, 1, 130, 54, 6, 42, 21, 4, 21, 6, 182, 1, 30, 154, 0, 11]
abbrev dktX5_draws_6 : List UInt8 := dkwX5_draws_6 ++ dktX5_draws_7
def dkwX5_draws_5 : List UInt8 := [21, 6, 182, 1, 27, 167, 0, 51, 21, 5, 5, 160, 0, 45, 42, 180, 0, 33, 16, 6, 46, 158, 0, 35]
abbrev dktX5_draws_5 : List UInt8 := dkwX5_draws_5 ++ dktX5_draws_6
def dkwX5_draws_4 : List UInt8 := [42, 180, 0, 33, 8, 46, 182, 1, 130, 54, 6, 42, 21, 4, 182, 1, 23, 154, 0, 11, 42, 21, 4]
abbrev dktX5_draws_4 : List UInt8 := dkwX5_draws_4 ++ dktX5_draws_5
def dkwX5_draws_3 : List UInt8 := [21, 6, 182, 1, 16, 167, 0, 98, 21, 5, 4, 160, 0, 44, 42, 180, 0, 33, 8, 46, 158, 0, 35, 42]
abbrev dktX5_draws_3 : List UInt8 := dkwX5_draws_3 ++ dktX5_draws_4
def dkwX5_draws_2 : List UInt8 := [180, 0, 33, 4, 46, 182, 1, 130, 54, 6, 42, 21, 4, 21, 6, 182, 1, 10, 154, 0, 11, 42, 21, 4]
abbrev dktX5_draws_2 : List UInt8 := dkwX5_draws_2 ++ dktX5_draws_3
def dkwX5_draws_1 : List UInt8 := [42, 180, 0, 33, 7, 46, 162, 0, 150, 42, 6, 182, 1, 130, 54, 5, 21, 5, 154, 0, 37, 42, 42]
abbrev dktX5_draws_1 : List UInt8 := dkwX5_draws_1 ++ dktX5_draws_2
def dkwX5_draws_0 : List UInt8 := [42, 28, 181, 1, 126, 3, 62, 29, 27, 162, 0, 181, 42, 182, 1, 7, 154, 0, 174, 3, 54, 4, 21, 4]
abbrev dktX5_draws_0 : List UInt8 := dkwX5_draws_0 ++ dktX5_draws_1
theorem dksX5_draws_0 : cX5_draws.data.toList.drop 0 = dktX5_draws_0 := by decide +kernel
theorem dksX5_draws_1 : cX5_draws.data.toList.drop 24 = dktX5_draws_1 := dk_seg dksX5_draws_0 24 rfl rfl
theorem dksX5_draws_2 : cX5_draws.data.toList.drop 47 = dktX5_draws_2 := dk_seg dksX5_draws_1 23 rfl rfl
theorem dksX5_draws_3 : cX5_draws.data.toList.drop 71 = dktX5_draws_3 := dk_seg dksX5_draws_2 24 rfl rfl
theorem dksX5_draws_4 : cX5_draws.data.toList.drop 95 = dktX5_draws_4 := dk_seg dksX5_draws_3 24 rfl rfl
theorem dksX5_draws_5 : cX5_draws.data.toList.drop 118 = dktX5_draws_5 := dk_seg dksX5_draws_4 23 rfl rfl
theorem dksX5_draws_6 : cX5_draws.data.toList.drop 142 = dktX5_draws_6 := dk_seg dksX5_draws_5 24 rfl rfl
theorem dksX5_draws_7 : cX5_draws.data.toList.drop 166 = dktX5_draws_7 := dk_seg dksX5_draws_6 24 rfl rfl
theorem dksX5_draws_8 : cX5_draws.data.toList.drop 190 = dktX5_draws_8 := dk_seg dksX5_draws_7 24 rfl rfl
theorem dX5_draws_0 : decode cX5_draws 0 = .ok (.aload_n 0, 1) := dk_42 (dk_at dksX5_draws_0 0 rfl rfl)
theorem dX5_draws_1 : decode cX5_draws 1 = .ok (.iload_n 2, 1) := dk_28 (dk_at dksX5_draws_0 1 rfl rfl)
theorem dX5_draws_2 : decode cX5_draws 2 = .ok (.putfield 382, 3) := dk_181 1 126 (dk_at dksX5_draws_0 2 rfl rfl)
theorem dX5_draws_5 : decode cX5_draws 5 = .ok (.iconst 0, 1) := dk_3 (dk_at dksX5_draws_0 5 rfl rfl)
theorem dX5_draws_6 : decode cX5_draws 6 = .ok (.istore_n 3, 1) := dk_62 (dk_at dksX5_draws_0 6 rfl rfl)
theorem dX5_draws_7 : decode cX5_draws 7 = .ok (.iload_n 3, 1) := dk_29 (dk_at dksX5_draws_0 7 rfl rfl)
theorem dX5_draws_8 : decode cX5_draws 8 = .ok (.iload_n 1, 1) := dk_27 (dk_at dksX5_draws_0 8 rfl rfl)
theorem dX5_draws_9 : decode cX5_draws 9 = .ok (.if_icmp .ge 181, 3) := dk_162 0 181 (dk_at dksX5_draws_0 9 rfl rfl)
theorem dX5_draws_12 : decode cX5_draws 12 = .ok (.aload_n 0, 1) := dk_42 (dk_at dksX5_draws_0 12 rfl rfl)
theorem dX5_draws_13 : decode cX5_draws 13 = .ok (.invokevirtual 263, 3) := dk_182 1 7 (dk_at dksX5_draws_0 13 rfl rfl)
theorem dX5_draws_16 : decode cX5_draws 16 = .ok (.ifCond .ne 174, 3) := dk_154 0 174 (dk_at dksX5_draws_0 16 rfl rfl)
theorem dX5_draws_19 : decode cX5_draws 19 = .ok (.iconst 0, 1) := dk_3 (dk_at dksX5_draws_0 19 rfl rfl)
theorem dX5_draws_20 : decode cX5_draws 20 = .ok (.istore 4, 2) := dk_54 4 (dk_at dksX5_draws_0 20 rfl rfl)
theorem dX5_draws_22 : decode cX5_draws 22 = .ok (.iload 4, 2) := dk_21 4 (dk_at dksX5_draws_0 22 rfl rfl)
theorem dX5_draws_24 : decode cX5_draws 24 = .ok (.aload_n 0, 1) := dk_42 (dk_at dksX5_draws_1 0 rfl rfl)
theorem dX5_draws_25 : decode cX5_draws 25 = .ok (.getfield 33, 3) := dk_180 0 33 (dk_at dksX5_draws_1 1 rfl rfl)
theorem dX5_draws_28 : decode cX5_draws 28 = .ok (.iconst 4, 1) := dk_7 (dk_at dksX5_draws_1 4 rfl rfl)
theorem dX5_draws_29 : decode cX5_draws 29 = .ok (.iaload, 1) := dk_46 (dk_at dksX5_draws_1 5 rfl rfl)
theorem dX5_draws_30 : decode cX5_draws 30 = .ok (.if_icmp .ge 150, 3) := dk_162 0 150 (dk_at dksX5_draws_1 6 rfl rfl)
theorem dX5_draws_33 : decode cX5_draws 33 = .ok (.aload_n 0, 1) := dk_42 (dk_at dksX5_draws_1 9 rfl rfl)
theorem dX5_draws_34 : decode cX5_draws 34 = .ok (.iconst 3, 1) := dk_6 (dk_at dksX5_draws_1 10 rfl rfl)
theorem dX5_draws_35 : decode cX5_draws 35 = .ok (.invokevirtual 386, 3) := dk_182 1 130 (dk_at dksX5_draws_1 11 rfl rfl)
theorem dX5_draws_38 : decode cX5_draws 38 = .ok (.istore 5, 2) := dk_54 5 (dk_at dksX5_draws_1 14 rfl rfl)
theorem dX5_draws_40 : decode cX5_draws 40 = .ok (.iload 5, 2) := dk_21 5 (dk_at dksX5_draws_1 16 rfl rfl)
theorem dX5_draws_42 : decode cX5_draws 42 = .ok (.ifCond .ne 37, 3) := dk_154 0 37 (dk_at dksX5_draws_1 18 rfl rfl)
theorem dX5_draws_45 : decode cX5_draws 45 = .ok (.aload_n 0, 1) := dk_42 (dk_at dksX5_draws_1 21 rfl rfl)
theorem dX5_draws_46 : decode cX5_draws 46 = .ok (.aload_n 0, 1) := dk_42 (dk_at dksX5_draws_1 22 rfl rfl)
theorem dX5_draws_47 : decode cX5_draws 47 = .ok (.getfield 33, 3) := dk_180 0 33 (dk_at dksX5_draws_2 0 rfl rfl)
theorem dX5_draws_50 : decode cX5_draws 50 = .ok (.iconst 1, 1) := dk_4 (dk_at dksX5_draws_2 3 rfl rfl)
theorem dX5_draws_51 : decode cX5_draws 51 = .ok (.iaload, 1) := dk_46 (dk_at dksX5_draws_2 4 rfl rfl)
theorem dX5_draws_52 : decode cX5_draws 52 = .ok (.invokevirtual 386, 3) := dk_182 1 130 (dk_at dksX5_draws_2 5 rfl rfl)
theorem dX5_draws_55 : decode cX5_draws 55 = .ok (.istore 6, 2) := dk_54 6 (dk_at dksX5_draws_2 8 rfl rfl)
theorem dX5_draws_57 : decode cX5_draws 57 = .ok (.aload_n 0, 1) := dk_42 (dk_at dksX5_draws_2 10 rfl rfl)
theorem dX5_draws_58 : decode cX5_draws 58 = .ok (.iload 4, 2) := dk_21 4 (dk_at dksX5_draws_2 11 rfl rfl)
theorem dX5_draws_60 : decode cX5_draws 60 = .ok (.iload 6, 2) := dk_21 6 (dk_at dksX5_draws_2 13 rfl rfl)
theorem dX5_draws_62 : decode cX5_draws 62 = .ok (.invokevirtual 266, 3) := dk_182 1 10 (dk_at dksX5_draws_2 15 rfl rfl)
theorem dX5_draws_65 : decode cX5_draws 65 = .ok (.ifCond .ne 11, 3) := dk_154 0 11 (dk_at dksX5_draws_2 18 rfl rfl)
theorem dX5_draws_68 : decode cX5_draws 68 = .ok (.aload_n 0, 1) := dk_42 (dk_at dksX5_draws_2 21 rfl rfl)
theorem dX5_draws_69 : decode cX5_draws 69 = .ok (.iload 4, 2) := dk_21 4 (dk_at dksX5_draws_2 22 rfl rfl)
theorem dX5_draws_71 : decode cX5_draws 71 = .ok (.iload 6, 2) := dk_21 6 (dk_at dksX5_draws_3 0 rfl rfl)
theorem dX5_draws_73 : decode cX5_draws 73 = .ok (.invokevirtual 272, 3) := dk_182 1 16 (dk_at dksX5_draws_3 2 rfl rfl)
theorem dX5_draws_76 : decode cX5_draws 76 = .ok (.goto 98, 3) := dk_167 0 98 (dk_at dksX5_draws_3 5 rfl rfl)
theorem dX5_draws_79 : decode cX5_draws 79 = .ok (.iload 5, 2) := dk_21 5 (dk_at dksX5_draws_3 8 rfl rfl)
theorem dX5_draws_81 : decode cX5_draws 81 = .ok (.iconst 1, 1) := dk_4 (dk_at dksX5_draws_3 10 rfl rfl)
theorem dX5_draws_82 : decode cX5_draws 82 = .ok (.if_icmp .ne 44, 3) := dk_160 0 44 (dk_at dksX5_draws_3 11 rfl rfl)
theorem dX5_draws_85 : decode cX5_draws 85 = .ok (.aload_n 0, 1) := dk_42 (dk_at dksX5_draws_3 14 rfl rfl)
theorem dX5_draws_86 : decode cX5_draws 86 = .ok (.getfield 33, 3) := dk_180 0 33 (dk_at dksX5_draws_3 15 rfl rfl)
theorem dX5_draws_89 : decode cX5_draws 89 = .ok (.iconst 5, 1) := dk_8 (dk_at dksX5_draws_3 18 rfl rfl)
theorem dX5_draws_90 : decode cX5_draws 90 = .ok (.iaload, 1) := dk_46 (dk_at dksX5_draws_3 19 rfl rfl)
theorem dX5_draws_91 : decode cX5_draws 91 = .ok (.ifCond .le 35, 3) := dk_158 0 35 (dk_at dksX5_draws_3 20 rfl rfl)
theorem dX5_draws_94 : decode cX5_draws 94 = .ok (.aload_n 0, 1) := dk_42 (dk_at dksX5_draws_3 23 rfl rfl)
theorem dX5_draws_95 : decode cX5_draws 95 = .ok (.aload_n 0, 1) := dk_42 (dk_at dksX5_draws_4 0 rfl rfl)
theorem dX5_draws_96 : decode cX5_draws 96 = .ok (.getfield 33, 3) := dk_180 0 33 (dk_at dksX5_draws_4 1 rfl rfl)
theorem dX5_draws_99 : decode cX5_draws 99 = .ok (.iconst 5, 1) := dk_8 (dk_at dksX5_draws_4 4 rfl rfl)
theorem dX5_draws_100 : decode cX5_draws 100 = .ok (.iaload, 1) := dk_46 (dk_at dksX5_draws_4 5 rfl rfl)
theorem dX5_draws_101 : decode cX5_draws 101 = .ok (.invokevirtual 386, 3) := dk_182 1 130 (dk_at dksX5_draws_4 6 rfl rfl)
theorem dX5_draws_104 : decode cX5_draws 104 = .ok (.istore 6, 2) := dk_54 6 (dk_at dksX5_draws_4 9 rfl rfl)
theorem dX5_draws_106 : decode cX5_draws 106 = .ok (.aload_n 0, 1) := dk_42 (dk_at dksX5_draws_4 11 rfl rfl)
theorem dX5_draws_107 : decode cX5_draws 107 = .ok (.iload 4, 2) := dk_21 4 (dk_at dksX5_draws_4 12 rfl rfl)
theorem dX5_draws_109 : decode cX5_draws 109 = .ok (.invokevirtual 279, 3) := dk_182 1 23 (dk_at dksX5_draws_4 14 rfl rfl)
theorem dX5_draws_112 : decode cX5_draws 112 = .ok (.ifCond .ne 11, 3) := dk_154 0 11 (dk_at dksX5_draws_4 17 rfl rfl)
theorem dX5_draws_115 : decode cX5_draws 115 = .ok (.aload_n 0, 1) := dk_42 (dk_at dksX5_draws_4 20 rfl rfl)
theorem dX5_draws_116 : decode cX5_draws 116 = .ok (.iload 4, 2) := dk_21 4 (dk_at dksX5_draws_4 21 rfl rfl)
theorem dX5_draws_118 : decode cX5_draws 118 = .ok (.iload 6, 2) := dk_21 6 (dk_at dksX5_draws_5 0 rfl rfl)
theorem dX5_draws_120 : decode cX5_draws 120 = .ok (.invokevirtual 283, 3) := dk_182 1 27 (dk_at dksX5_draws_5 2 rfl rfl)
theorem dX5_draws_123 : decode cX5_draws 123 = .ok (.goto 51, 3) := dk_167 0 51 (dk_at dksX5_draws_5 5 rfl rfl)
theorem dX5_draws_126 : decode cX5_draws 126 = .ok (.iload 5, 2) := dk_21 5 (dk_at dksX5_draws_5 8 rfl rfl)
theorem dX5_draws_128 : decode cX5_draws 128 = .ok (.iconst 2, 1) := dk_5 (dk_at dksX5_draws_5 10 rfl rfl)
theorem dX5_draws_129 : decode cX5_draws 129 = .ok (.if_icmp .ne 45, 3) := dk_160 0 45 (dk_at dksX5_draws_5 11 rfl rfl)
theorem dX5_draws_132 : decode cX5_draws 132 = .ok (.aload_n 0, 1) := dk_42 (dk_at dksX5_draws_5 14 rfl rfl)
theorem dX5_draws_133 : decode cX5_draws 133 = .ok (.getfield 33, 3) := dk_180 0 33 (dk_at dksX5_draws_5 15 rfl rfl)
theorem dX5_draws_136 : decode cX5_draws 136 = .ok (.bipush 6, 2) := dk_16 6 (dk_at dksX5_draws_5 18 rfl rfl)
theorem dX5_draws_138 : decode cX5_draws 138 = .ok (.iaload, 1) := dk_46 (dk_at dksX5_draws_5 20 rfl rfl)
theorem dX5_draws_139 : decode cX5_draws 139 = .ok (.ifCond .le 35, 3) := dk_158 0 35 (dk_at dksX5_draws_5 21 rfl rfl)
theorem dX5_draws_142 : decode cX5_draws 142 = .ok (.aload_n 0, 1) := dk_42 (dk_at dksX5_draws_6 0 rfl rfl)
theorem dX5_draws_143 : decode cX5_draws 143 = .ok (.aload_n 0, 1) := dk_42 (dk_at dksX5_draws_6 1 rfl rfl)
theorem dX5_draws_144 : decode cX5_draws 144 = .ok (.getfield 33, 3) := dk_180 0 33 (dk_at dksX5_draws_6 2 rfl rfl)
theorem dX5_draws_147 : decode cX5_draws 147 = .ok (.bipush 6, 2) := dk_16 6 (dk_at dksX5_draws_6 5 rfl rfl)
theorem dX5_draws_149 : decode cX5_draws 149 = .ok (.iaload, 1) := dk_46 (dk_at dksX5_draws_6 7 rfl rfl)
theorem dX5_draws_150 : decode cX5_draws 150 = .ok (.invokevirtual 386, 3) := dk_182 1 130 (dk_at dksX5_draws_6 8 rfl rfl)
theorem dX5_draws_153 : decode cX5_draws 153 = .ok (.istore 6, 2) := dk_54 6 (dk_at dksX5_draws_6 11 rfl rfl)
theorem dX5_draws_155 : decode cX5_draws 155 = .ok (.aload_n 0, 1) := dk_42 (dk_at dksX5_draws_6 13 rfl rfl)
theorem dX5_draws_156 : decode cX5_draws 156 = .ok (.iload 4, 2) := dk_21 4 (dk_at dksX5_draws_6 14 rfl rfl)
theorem dX5_draws_158 : decode cX5_draws 158 = .ok (.iload 6, 2) := dk_21 6 (dk_at dksX5_draws_6 16 rfl rfl)
theorem dX5_draws_160 : decode cX5_draws 160 = .ok (.invokevirtual 286, 3) := dk_182 1 30 (dk_at dksX5_draws_6 18 rfl rfl)
theorem dX5_draws_163 : decode cX5_draws 163 = .ok (.ifCond .ne 11, 3) := dk_154 0 11 (dk_at dksX5_draws_6 21 rfl rfl)
theorem dX5_draws_166 : decode cX5_draws 166 = .ok (.aload_n 0, 1) := dk_42 (dk_at dksX5_draws_7 0 rfl rfl)
theorem dX5_draws_167 : decode cX5_draws 167 = .ok (.iload 4, 2) := dk_21 4 (dk_at dksX5_draws_7 1 rfl rfl)
theorem dX5_draws_169 : decode cX5_draws 169 = .ok (.iload 6, 2) := dk_21 6 (dk_at dksX5_draws_7 3 rfl rfl)
theorem dX5_draws_171 : decode cX5_draws 171 = .ok (.invokevirtual 289, 3) := dk_182 1 33 (dk_at dksX5_draws_7 5 rfl rfl)
theorem dX5_draws_174 : decode cX5_draws 174 = .ok (.iinc 4 1, 3) := dk_132 4 1 (dk_at dksX5_draws_7 8 rfl rfl)
theorem dX5_draws_177 : decode cX5_draws 177 = .ok (.goto (-155), 3) := dk_167 255 101 (dk_at dksX5_draws_7 11 rfl rfl)
theorem dX5_draws_180 : decode cX5_draws 180 = .ok (.aload_n 0, 1) := dk_42 (dk_at dksX5_draws_7 14 rfl rfl)
theorem dX5_draws_181 : decode cX5_draws 181 = .ok (.invokevirtual 292, 3) := dk_182 1 36 (dk_at dksX5_draws_7 15 rfl rfl)
theorem dX5_draws_184 : decode cX5_draws 184 = .ok (.iinc 3 1, 3) := dk_132 3 1 (dk_at dksX5_draws_7 18 rfl rfl)
theorem dX5_draws_187 : decode cX5_draws 187 = .ok (.goto (-180), 3) := dk_167 255 76 (dk_at dksX5_draws_7 21 rfl rfl)
theorem dX5_draws_190 : decode cX5_draws 190 = .ok (.iload_n 3, 1) := dk_29 (dk_at dksX5_draws_8 0 rfl rfl)
theorem dX5_draws_191 : decode cX5_draws 191 = .ok (.ireturn, 1) := dk_172 (dk_at dksX5_draws_8 1 rfl rfl)
abbrev cX5_draw : ByteArray := prog_26_method_97_code
def yX5_draw : MethodName := ⟨RX5, "draw", "(I)I"⟩
def dkwX5_draw_1 : List UInt8 := [112, 172]
abbrev dktX5_draw_1 : List UInt8 := dkwX5_draw_1 ++ []
def dkwX5_draw_0 : List UInt8 := [42, 42, 180, 1, 126, 19, 1, 129, 104, 17, 48, 57, 96, 181, 1, 126, 42, 180, 1, 126, 16, 8, 124, 27]
abbrev dktX5_draw_0 : List UInt8 := dkwX5_draw_0 ++ dktX5_draw_1
theorem dksX5_draw_0 : cX5_draw.data.toList.drop 0 = dktX5_draw_0 := by decide +kernel
theorem dksX5_draw_1 : cX5_draw.data.toList.drop 24 = dktX5_draw_1 := dk_seg dksX5_draw_0 24 rfl rfl
theorem dX5_draw_0 : decode cX5_draw 0 = .ok (.aload_n 0, 1) := dk_42 (dk_at dksX5_draw_0 0 rfl rfl)
theorem dX5_draw_1 : decode cX5_draw 1 = .ok (.aload_n 0, 1) := dk_42 (dk_at dksX5_draw_0 1 rfl rfl)
theorem dX5_draw_2 : decode cX5_draw 2 = .ok (.getfield 382, 3) := dk_180 1 126 (dk_at dksX5_draw_0 2 rfl rfl)
theorem dX5_draw_5 : decode cX5_draw 5 = .ok (.ldc_w 385, 3) := dk_19 1 129 (dk_at dksX5_draw_0 5 rfl rfl)
theorem dX5_draw_8 : decode cX5_draw 8 = .ok (.imul, 1) := dk_104 (dk_at dksX5_draw_0 8 rfl rfl)
theorem dX5_draw_9 : decode cX5_draw 9 = .ok (.sipush 12345, 3) := dk_17 48 57 (dk_at dksX5_draw_0 9 rfl rfl)
theorem dX5_draw_12 : decode cX5_draw 12 = .ok (.iadd, 1) := dk_96 (dk_at dksX5_draw_0 12 rfl rfl)
theorem dX5_draw_13 : decode cX5_draw 13 = .ok (.putfield 382, 3) := dk_181 1 126 (dk_at dksX5_draw_0 13 rfl rfl)
theorem dX5_draw_16 : decode cX5_draw 16 = .ok (.aload_n 0, 1) := dk_42 (dk_at dksX5_draw_0 16 rfl rfl)
theorem dX5_draw_17 : decode cX5_draw 17 = .ok (.getfield 382, 3) := dk_180 1 126 (dk_at dksX5_draw_0 17 rfl rfl)
theorem dX5_draw_20 : decode cX5_draw 20 = .ok (.bipush 8, 2) := dk_16 8 (dk_at dksX5_draw_0 20 rfl rfl)
theorem dX5_draw_22 : decode cX5_draw 22 = .ok (.iushr, 1) := dk_124 (dk_at dksX5_draw_0 22 rfl rfl)
theorem dX5_draw_23 : decode cX5_draw 23 = .ok (.iload_n 1, 1) := dk_27 (dk_at dksX5_draw_0 23 rfl rfl)
theorem dX5_draw_24 : decode cX5_draw 24 = .ok (.irem, 1) := dk_112 (dk_at dksX5_draw_1 0 rfl rfl)
theorem dX5_draw_25 : decode cX5_draw 25 = .ok (.ireturn, 1) := dk_172 (dk_at dksX5_draw_1 1 rfl rfl)
abbrev cX5_odds : ByteArray := prog_26_method_100_code
def yX5_odds : MethodName := ⟨RX5, "odds", "(III)I"⟩
def dkwX5_odds_4 : List UInt8 := [167, 255, 206, 21, 4, 172]
abbrev dktX5_odds_4 : List UInt8 := dkwX5_odds_4 ++ []
def dkwX5_odds_3 : List UInt8 := [3, 182, 1, 1, 7, 160, 0, 7, 4, 167, 0, 4, 3, 96, 54, 4, 42, 182, 1, 139, 132, 5, 1]
abbrev dktX5_odds_3 : List UInt8 := dkwX5_odds_3 ++ dktX5_odds_4
def dkwX5_odds_2 : List UInt8 := [162, 0, 50, 42, 5, 42, 180, 0, 33, 3, 46, 104, 29, 21, 5, 96, 182, 1, 133, 87, 21, 4, 42, 27]
abbrev dktX5_odds_2 : List UInt8 := dkwX5_odds_2 ++ dktX5_odds_3
def dkwX5_odds_1 : List UInt8 := [180, 0, 33, 7, 46, 154, 0, 5, 2, 172, 42, 182, 1, 136, 3, 54, 4, 3, 54, 5, 21, 5, 28]
abbrev dktX5_odds_1 : List UInt8 := dkwX5_odds_1 ++ dktX5_odds_2
def dkwX5_odds_0 : List UInt8 := [42, 3, 181, 0, 1, 42, 27, 182, 0, 244, 153, 0, 22, 28, 4, 16, 30, 184, 0, 187, 153, 0, 12, 42]
abbrev dktX5_odds_0 : List UInt8 := dkwX5_odds_0 ++ dktX5_odds_1
theorem dksX5_odds_0 : cX5_odds.data.toList.drop 0 = dktX5_odds_0 := by decide +kernel
theorem dksX5_odds_1 : cX5_odds.data.toList.drop 24 = dktX5_odds_1 := dk_seg dksX5_odds_0 24 rfl rfl
theorem dksX5_odds_2 : cX5_odds.data.toList.drop 47 = dktX5_odds_2 := dk_seg dksX5_odds_1 23 rfl rfl
theorem dksX5_odds_3 : cX5_odds.data.toList.drop 71 = dktX5_odds_3 := dk_seg dksX5_odds_2 24 rfl rfl
theorem dksX5_odds_4 : cX5_odds.data.toList.drop 94 = dktX5_odds_4 := dk_seg dksX5_odds_3 23 rfl rfl
theorem dX5_odds_0 : decode cX5_odds 0 = .ok (.aload_n 0, 1) := dk_42 (dk_at dksX5_odds_0 0 rfl rfl)
theorem dX5_odds_1 : decode cX5_odds 1 = .ok (.iconst 0, 1) := dk_3 (dk_at dksX5_odds_0 1 rfl rfl)
theorem dX5_odds_2 : decode cX5_odds 2 = .ok (.putfield 1, 3) := dk_181 0 1 (dk_at dksX5_odds_0 2 rfl rfl)
theorem dX5_odds_5 : decode cX5_odds 5 = .ok (.aload_n 0, 1) := dk_42 (dk_at dksX5_odds_0 5 rfl rfl)
theorem dX5_odds_6 : decode cX5_odds 6 = .ok (.iload_n 1, 1) := dk_27 (dk_at dksX5_odds_0 6 rfl rfl)
theorem dX5_odds_7 : decode cX5_odds 7 = .ok (.invokevirtual 244, 3) := dk_182 0 244 (dk_at dksX5_odds_0 7 rfl rfl)
theorem dX5_odds_10 : decode cX5_odds 10 = .ok (.ifCond .eq 22, 3) := dk_153 0 22 (dk_at dksX5_odds_0 10 rfl rfl)
theorem dX5_odds_13 : decode cX5_odds 13 = .ok (.iload_n 2, 1) := dk_28 (dk_at dksX5_odds_0 13 rfl rfl)
theorem dX5_odds_14 : decode cX5_odds 14 = .ok (.iconst 1, 1) := dk_4 (dk_at dksX5_odds_0 14 rfl rfl)
theorem dX5_odds_15 : decode cX5_odds 15 = .ok (.bipush 30, 2) := dk_16 30 (dk_at dksX5_odds_0 15 rfl rfl)
theorem dX5_odds_17 : decode cX5_odds 17 = .ok (.invokestatic 187, 3) := dk_184 0 187 (dk_at dksX5_odds_0 17 rfl rfl)
theorem dX5_odds_20 : decode cX5_odds 20 = .ok (.ifCond .eq 12, 3) := dk_153 0 12 (dk_at dksX5_odds_0 20 rfl rfl)
theorem dX5_odds_23 : decode cX5_odds 23 = .ok (.aload_n 0, 1) := dk_42 (dk_at dksX5_odds_0 23 rfl rfl)
theorem dX5_odds_24 : decode cX5_odds 24 = .ok (.getfield 33, 3) := dk_180 0 33 (dk_at dksX5_odds_1 0 rfl rfl)
theorem dX5_odds_27 : decode cX5_odds 27 = .ok (.iconst 4, 1) := dk_7 (dk_at dksX5_odds_1 3 rfl rfl)
theorem dX5_odds_28 : decode cX5_odds 28 = .ok (.iaload, 1) := dk_46 (dk_at dksX5_odds_1 4 rfl rfl)
theorem dX5_odds_29 : decode cX5_odds 29 = .ok (.ifCond .ne 5, 3) := dk_154 0 5 (dk_at dksX5_odds_1 5 rfl rfl)
theorem dX5_odds_32 : decode cX5_odds 32 = .ok (.iconst (-1), 1) := dk_2 (dk_at dksX5_odds_1 8 rfl rfl)
theorem dX5_odds_33 : decode cX5_odds 33 = .ok (.ireturn, 1) := dk_172 (dk_at dksX5_odds_1 9 rfl rfl)
theorem dX5_odds_34 : decode cX5_odds 34 = .ok (.aload_n 0, 1) := dk_42 (dk_at dksX5_odds_1 10 rfl rfl)
theorem dX5_odds_35 : decode cX5_odds 35 = .ok (.invokevirtual 392, 3) := dk_182 1 136 (dk_at dksX5_odds_1 11 rfl rfl)
theorem dX5_odds_38 : decode cX5_odds 38 = .ok (.iconst 0, 1) := dk_3 (dk_at dksX5_odds_1 14 rfl rfl)
theorem dX5_odds_39 : decode cX5_odds 39 = .ok (.istore 4, 2) := dk_54 4 (dk_at dksX5_odds_1 15 rfl rfl)
theorem dX5_odds_41 : decode cX5_odds 41 = .ok (.iconst 0, 1) := dk_3 (dk_at dksX5_odds_1 17 rfl rfl)
theorem dX5_odds_42 : decode cX5_odds 42 = .ok (.istore 5, 2) := dk_54 5 (dk_at dksX5_odds_1 18 rfl rfl)
theorem dX5_odds_44 : decode cX5_odds 44 = .ok (.iload 5, 2) := dk_21 5 (dk_at dksX5_odds_1 20 rfl rfl)
theorem dX5_odds_46 : decode cX5_odds 46 = .ok (.iload_n 2, 1) := dk_28 (dk_at dksX5_odds_1 22 rfl rfl)
theorem dX5_odds_47 : decode cX5_odds 47 = .ok (.if_icmp .ge 50, 3) := dk_162 0 50 (dk_at dksX5_odds_2 0 rfl rfl)
theorem dX5_odds_50 : decode cX5_odds 50 = .ok (.aload_n 0, 1) := dk_42 (dk_at dksX5_odds_2 3 rfl rfl)
theorem dX5_odds_51 : decode cX5_odds 51 = .ok (.iconst 2, 1) := dk_5 (dk_at dksX5_odds_2 4 rfl rfl)
theorem dX5_odds_52 : decode cX5_odds 52 = .ok (.aload_n 0, 1) := dk_42 (dk_at dksX5_odds_2 5 rfl rfl)
theorem dX5_odds_53 : decode cX5_odds 53 = .ok (.getfield 33, 3) := dk_180 0 33 (dk_at dksX5_odds_2 6 rfl rfl)
theorem dX5_odds_56 : decode cX5_odds 56 = .ok (.iconst 0, 1) := dk_3 (dk_at dksX5_odds_2 9 rfl rfl)
theorem dX5_odds_57 : decode cX5_odds 57 = .ok (.iaload, 1) := dk_46 (dk_at dksX5_odds_2 10 rfl rfl)
theorem dX5_odds_58 : decode cX5_odds 58 = .ok (.imul, 1) := dk_104 (dk_at dksX5_odds_2 11 rfl rfl)
theorem dX5_odds_59 : decode cX5_odds 59 = .ok (.iload_n 3, 1) := dk_29 (dk_at dksX5_odds_2 12 rfl rfl)
theorem dX5_odds_60 : decode cX5_odds 60 = .ok (.iload 5, 2) := dk_21 5 (dk_at dksX5_odds_2 13 rfl rfl)
theorem dX5_odds_62 : decode cX5_odds 62 = .ok (.iadd, 1) := dk_96 (dk_at dksX5_odds_2 15 rfl rfl)
theorem dX5_odds_63 : decode cX5_odds 63 = .ok (.invokevirtual 389, 3) := dk_182 1 133 (dk_at dksX5_odds_2 16 rfl rfl)
theorem dX5_odds_66 : decode cX5_odds 66 = .ok (.pop, 1) := dk_87 (dk_at dksX5_odds_2 19 rfl rfl)
theorem dX5_odds_67 : decode cX5_odds 67 = .ok (.iload 4, 2) := dk_21 4 (dk_at dksX5_odds_2 20 rfl rfl)
theorem dX5_odds_69 : decode cX5_odds 69 = .ok (.aload_n 0, 1) := dk_42 (dk_at dksX5_odds_2 22 rfl rfl)
theorem dX5_odds_70 : decode cX5_odds 70 = .ok (.iload_n 1, 1) := dk_27 (dk_at dksX5_odds_2 23 rfl rfl)
theorem dX5_odds_71 : decode cX5_odds 71 = .ok (.iconst 0, 1) := dk_3 (dk_at dksX5_odds_3 0 rfl rfl)
theorem dX5_odds_72 : decode cX5_odds 72 = .ok (.invokevirtual 257, 3) := dk_182 1 1 (dk_at dksX5_odds_3 1 rfl rfl)
theorem dX5_odds_75 : decode cX5_odds 75 = .ok (.iconst 4, 1) := dk_7 (dk_at dksX5_odds_3 4 rfl rfl)
theorem dX5_odds_76 : decode cX5_odds 76 = .ok (.if_icmp .ne 7, 3) := dk_160 0 7 (dk_at dksX5_odds_3 5 rfl rfl)
theorem dX5_odds_79 : decode cX5_odds 79 = .ok (.iconst 1, 1) := dk_4 (dk_at dksX5_odds_3 8 rfl rfl)
theorem dX5_odds_80 : decode cX5_odds 80 = .ok (.goto 4, 3) := dk_167 0 4 (dk_at dksX5_odds_3 9 rfl rfl)
theorem dX5_odds_83 : decode cX5_odds 83 = .ok (.iconst 0, 1) := dk_3 (dk_at dksX5_odds_3 12 rfl rfl)
theorem dX5_odds_84 : decode cX5_odds 84 = .ok (.iadd, 1) := dk_96 (dk_at dksX5_odds_3 13 rfl rfl)
theorem dX5_odds_85 : decode cX5_odds 85 = .ok (.istore 4, 2) := dk_54 4 (dk_at dksX5_odds_3 14 rfl rfl)
theorem dX5_odds_87 : decode cX5_odds 87 = .ok (.aload_n 0, 1) := dk_42 (dk_at dksX5_odds_3 16 rfl rfl)
theorem dX5_odds_88 : decode cX5_odds 88 = .ok (.invokevirtual 395, 3) := dk_182 1 139 (dk_at dksX5_odds_3 17 rfl rfl)
theorem dX5_odds_91 : decode cX5_odds 91 = .ok (.iinc 5 1, 3) := dk_132 5 1 (dk_at dksX5_odds_3 20 rfl rfl)
theorem dX5_odds_94 : decode cX5_odds 94 = .ok (.goto (-50), 3) := dk_167 255 206 (dk_at dksX5_odds_4 0 rfl rfl)
theorem dX5_odds_97 : decode cX5_odds 97 = .ok (.iload 4, 2) := dk_21 4 (dk_at dksX5_odds_4 3 rfl rfl)
theorem dX5_odds_99 : decode cX5_odds 99 = .ok (.ireturn, 1) := dk_172 (dk_at dksX5_odds_4 5 rfl rfl)
abbrev cX5_tries : ByteArray := prog_26_method_56_code
def yX5_tries : MethodName := ⟨RX5, "tries", "()V"⟩
def dkwX5_tries_1 : List UInt8 := [132, 1, 1, 167, 255, 231, 177]
abbrev dktX5_tries_1 : List UInt8 := dkwX5_tries_1 ++ []
def dkwX5_tries_0 : List UInt8 := [3, 60, 27, 17, 1, 114, 162, 0, 24, 42, 180, 0, 56, 27, 42, 180, 0, 33, 16, 106, 27, 96, 46, 79]
abbrev dktX5_tries_0 : List UInt8 := dkwX5_tries_0 ++ dktX5_tries_1
theorem dksX5_tries_0 : cX5_tries.data.toList.drop 0 = dktX5_tries_0 := by decide +kernel
theorem dksX5_tries_1 : cX5_tries.data.toList.drop 24 = dktX5_tries_1 := dk_seg dksX5_tries_0 24 rfl rfl
theorem dX5_tries_0 : decode cX5_tries 0 = .ok (.iconst 0, 1) := dk_3 (dk_at dksX5_tries_0 0 rfl rfl)
theorem dX5_tries_1 : decode cX5_tries 1 = .ok (.istore_n 1, 1) := dk_60 (dk_at dksX5_tries_0 1 rfl rfl)
theorem dX5_tries_2 : decode cX5_tries 2 = .ok (.iload_n 1, 1) := dk_27 (dk_at dksX5_tries_0 2 rfl rfl)
theorem dX5_tries_3 : decode cX5_tries 3 = .ok (.sipush 370, 3) := dk_17 1 114 (dk_at dksX5_tries_0 3 rfl rfl)
theorem dX5_tries_6 : decode cX5_tries 6 = .ok (.if_icmp .ge 24, 3) := dk_162 0 24 (dk_at dksX5_tries_0 6 rfl rfl)
theorem dX5_tries_9 : decode cX5_tries 9 = .ok (.aload_n 0, 1) := dk_42 (dk_at dksX5_tries_0 9 rfl rfl)
theorem dX5_tries_10 : decode cX5_tries 10 = .ok (.getfield 56, 3) := dk_180 0 56 (dk_at dksX5_tries_0 10 rfl rfl)
theorem dX5_tries_13 : decode cX5_tries 13 = .ok (.iload_n 1, 1) := dk_27 (dk_at dksX5_tries_0 13 rfl rfl)
theorem dX5_tries_14 : decode cX5_tries 14 = .ok (.aload_n 0, 1) := dk_42 (dk_at dksX5_tries_0 14 rfl rfl)
theorem dX5_tries_15 : decode cX5_tries 15 = .ok (.getfield 33, 3) := dk_180 0 33 (dk_at dksX5_tries_0 15 rfl rfl)
theorem dX5_tries_18 : decode cX5_tries 18 = .ok (.bipush 106, 2) := dk_16 106 (dk_at dksX5_tries_0 18 rfl rfl)
theorem dX5_tries_20 : decode cX5_tries 20 = .ok (.iload_n 1, 1) := dk_27 (dk_at dksX5_tries_0 20 rfl rfl)
theorem dX5_tries_21 : decode cX5_tries 21 = .ok (.iadd, 1) := dk_96 (dk_at dksX5_tries_0 21 rfl rfl)
theorem dX5_tries_22 : decode cX5_tries 22 = .ok (.iaload, 1) := dk_46 (dk_at dksX5_tries_0 22 rfl rfl)
theorem dX5_tries_23 : decode cX5_tries 23 = .ok (.iastore, 1) := dk_79 (dk_at dksX5_tries_0 23 rfl rfl)
theorem dX5_tries_24 : decode cX5_tries 24 = .ok (.iinc 1 1, 3) := dk_132 1 1 (dk_at dksX5_tries_1 0 rfl rfl)
theorem dX5_tries_27 : decode cX5_tries 27 = .ok (.goto (-25), 3) := dk_167 255 231 (dk_at dksX5_tries_1 3 rfl rfl)
theorem dX5_tries_30 : decode cX5_tries 30 = .ok (.return_, 1) := dk_177 (dk_at dksX5_tries_1 6 rfl rfl)
abbrev cX5_back : ByteArray := prog_26_method_57_code
def yX5_back : MethodName := ⟨RX5, "back", "()V"⟩
def dkwX5_back_1 : List UInt8 := [132, 1, 1, 167, 255, 231, 177]
abbrev dktX5_back_1 : List UInt8 := dkwX5_back_1 ++ []
def dkwX5_back_0 : List UInt8 := [3, 60, 27, 17, 1, 114, 162, 0, 24, 42, 180, 0, 33, 16, 106, 27, 96, 42, 180, 0, 56, 27, 46, 79]
abbrev dktX5_back_0 : List UInt8 := dkwX5_back_0 ++ dktX5_back_1
theorem dksX5_back_0 : cX5_back.data.toList.drop 0 = dktX5_back_0 := by decide +kernel
theorem dksX5_back_1 : cX5_back.data.toList.drop 24 = dktX5_back_1 := dk_seg dksX5_back_0 24 rfl rfl
theorem dX5_back_0 : decode cX5_back 0 = .ok (.iconst 0, 1) := dk_3 (dk_at dksX5_back_0 0 rfl rfl)
theorem dX5_back_1 : decode cX5_back 1 = .ok (.istore_n 1, 1) := dk_60 (dk_at dksX5_back_0 1 rfl rfl)
theorem dX5_back_2 : decode cX5_back 2 = .ok (.iload_n 1, 1) := dk_27 (dk_at dksX5_back_0 2 rfl rfl)
theorem dX5_back_3 : decode cX5_back 3 = .ok (.sipush 370, 3) := dk_17 1 114 (dk_at dksX5_back_0 3 rfl rfl)
theorem dX5_back_6 : decode cX5_back 6 = .ok (.if_icmp .ge 24, 3) := dk_162 0 24 (dk_at dksX5_back_0 6 rfl rfl)
theorem dX5_back_9 : decode cX5_back 9 = .ok (.aload_n 0, 1) := dk_42 (dk_at dksX5_back_0 9 rfl rfl)
theorem dX5_back_10 : decode cX5_back 10 = .ok (.getfield 33, 3) := dk_180 0 33 (dk_at dksX5_back_0 10 rfl rfl)
theorem dX5_back_13 : decode cX5_back 13 = .ok (.bipush 106, 2) := dk_16 106 (dk_at dksX5_back_0 13 rfl rfl)
theorem dX5_back_15 : decode cX5_back 15 = .ok (.iload_n 1, 1) := dk_27 (dk_at dksX5_back_0 15 rfl rfl)
theorem dX5_back_16 : decode cX5_back 16 = .ok (.iadd, 1) := dk_96 (dk_at dksX5_back_0 16 rfl rfl)
theorem dX5_back_17 : decode cX5_back 17 = .ok (.aload_n 0, 1) := dk_42 (dk_at dksX5_back_0 17 rfl rfl)
theorem dX5_back_18 : decode cX5_back 18 = .ok (.getfield 56, 3) := dk_180 0 56 (dk_at dksX5_back_0 18 rfl rfl)
theorem dX5_back_21 : decode cX5_back 21 = .ok (.iload_n 1, 1) := dk_27 (dk_at dksX5_back_0 21 rfl rfl)
theorem dX5_back_22 : decode cX5_back 22 = .ok (.iaload, 1) := dk_46 (dk_at dksX5_back_0 22 rfl rfl)
theorem dX5_back_23 : decode cX5_back 23 = .ok (.iastore, 1) := dk_79 (dk_at dksX5_back_0 23 rfl rfl)
theorem dX5_back_24 : decode cX5_back 24 = .ok (.iinc 1 1, 3) := dk_132 1 1 (dk_at dksX5_back_1 0 rfl rfl)
theorem dX5_back_27 : decode cX5_back 27 = .ok (.goto (-25), 3) := dk_167 255 231 (dk_at dksX5_back_1 3 rfl rfl)
theorem dX5_back_30 : decode cX5_back 30 = .ok (.return_, 1) := dk_177 (dk_at dksX5_back_1 6 rfl rfl)
abbrev cX5_daybook : ByteArray := prog_26_method_103_code
def yX5_daybook : MethodName := ⟨RX5, "daybook", "(I)I"⟩
def dkwX5_daybook_11 : List UInt8 := [182, 1, 139, 28, 172]
abbrev dktX5_daybook_11 : List UInt8 := dkwX5_daybook_11 ++ []
def dkwX5_daybook_10 : List UInt8 := [100, 104, 29, 96, 42, 180, 0, 56, 29, 46, 79, 132, 3, 1, 167, 255, 223, 27, 154, 0, 7, 42]
abbrev dktX5_daybook_10 : List UInt8 := dkwX5_daybook_10 ++ dktX5_daybook_11
def dkwX5_daybook_9 : List UInt8 := [182, 1, 13, 3, 62, 29, 17, 1, 114, 162, 0, 32, 42, 180, 0, 53, 17, 1, 114, 42, 180, 0, 241, 4]
abbrev dktX5_daybook_9 : List UInt8 := dkwX5_daybook_9 ++ dktX5_daybook_10
def dkwX5_daybook_8 : List UInt8 := [182, 1, 151, 79, 42, 4, 181, 1, 154, 27, 4, 160, 0, 54, 42, 180, 0, 72, 4, 46, 158, 0, 45, 42]
abbrev dktX5_daybook_8 : List UInt8 := dkwX5_daybook_8 ++ dktX5_daybook_9
def dkwX5_daybook_7 : List UInt8 := [167, 255, 204, 42, 180, 0, 72, 5, 42, 180, 0, 33, 16, 106, 46, 79, 42, 180, 0, 72, 6, 42, 8]
abbrev dktX5_daybook_7 : List UInt8 := dkwX5_daybook_7 ++ dktX5_daybook_8
def dkwX5_daybook_6 : List UInt8 := [3, 46, 158, 0, 8, 29, 61, 167, 0, 13, 42, 180, 0, 72, 4, 92, 46, 4, 96, 79, 132, 3, 1]
abbrev dktX5_daybook_6 : List UInt8 := dkwX5_daybook_6 ++ dktX5_daybook_7
def dkwX5_daybook_5 : List UInt8 := [162, 0, 50, 28, 156, 0, 46, 42, 180, 0, 72, 3, 42, 6, 29, 104, 182, 1, 148, 79, 42, 180, 0, 72]
abbrev dktX5_daybook_5 : List UInt8 := dkwX5_daybook_5 ++ dktX5_daybook_6
def dkwX5_daybook_4 : List UInt8 := [42, 180, 0, 72, 28, 3, 79, 132, 2, 1, 167, 255, 241, 2, 61, 3, 62, 29, 42, 180, 1, 142]
abbrev dktX5_daybook_4 : List UInt8 := dkwX5_daybook_4 ++ dktX5_daybook_5
def dkwX5_daybook_3 : List UInt8 := [42, 89, 180, 1, 142, 4, 96, 181, 1, 142, 167, 255, 215, 42, 182, 1, 136, 3, 61, 28, 7, 162, 0, 16]
abbrev dktX5_daybook_3 : List UInt8 := dkwX5_daybook_3 ++ dktX5_daybook_4
def dkwX5_daybook_2 : List UInt8 := [42, 182, 1, 145, 153, 0, 12, 42, 16, 59, 182, 0, 238, 154, 0, 11, 16, 254, 42, 180, 0, 175, 100, 172]
abbrev dktX5_daybook_2 : List UInt8 := dkwX5_daybook_2 ++ dktX5_daybook_3
def dkwX5_daybook_1 : List UInt8 := [182, 0, 229, 42, 3, 181, 0, 172, 42, 3, 181, 1, 142, 42, 182, 0, 184, 42, 180, 0, 155, 153, 0, 40]
abbrev dktX5_daybook_1 : List UInt8 := dkwX5_daybook_1 ++ dktX5_daybook_2
def dkwX5_daybook_0 : List UInt8 := [42, 3, 181, 0, 1, 27, 3, 4, 184, 0, 187, 154, 0, 7, 17, 252, 24, 172, 42, 17, 1, 244]
abbrev dktX5_daybook_0 : List UInt8 := dkwX5_daybook_0 ++ dktX5_daybook_1
theorem dksX5_daybook_0 : cX5_daybook.data.toList.drop 0 = dktX5_daybook_0 := by decide +kernel
theorem dksX5_daybook_1 : cX5_daybook.data.toList.drop 22 = dktX5_daybook_1 := dk_seg dksX5_daybook_0 22 rfl rfl
theorem dksX5_daybook_2 : cX5_daybook.data.toList.drop 46 = dktX5_daybook_2 := dk_seg dksX5_daybook_1 24 rfl rfl
theorem dksX5_daybook_3 : cX5_daybook.data.toList.drop 70 = dktX5_daybook_3 := dk_seg dksX5_daybook_2 24 rfl rfl
theorem dksX5_daybook_4 : cX5_daybook.data.toList.drop 94 = dktX5_daybook_4 := dk_seg dksX5_daybook_3 24 rfl rfl
theorem dksX5_daybook_5 : cX5_daybook.data.toList.drop 116 = dktX5_daybook_5 := dk_seg dksX5_daybook_4 22 rfl rfl
theorem dksX5_daybook_6 : cX5_daybook.data.toList.drop 140 = dktX5_daybook_6 := dk_seg dksX5_daybook_5 24 rfl rfl
theorem dksX5_daybook_7 : cX5_daybook.data.toList.drop 163 = dktX5_daybook_7 := dk_seg dksX5_daybook_6 23 rfl rfl
theorem dksX5_daybook_8 : cX5_daybook.data.toList.drop 186 = dktX5_daybook_8 := dk_seg dksX5_daybook_7 23 rfl rfl
theorem dksX5_daybook_9 : cX5_daybook.data.toList.drop 210 = dktX5_daybook_9 := dk_seg dksX5_daybook_8 24 rfl rfl
theorem dksX5_daybook_10 : cX5_daybook.data.toList.drop 234 = dktX5_daybook_10 := dk_seg dksX5_daybook_9 24 rfl rfl
theorem dksX5_daybook_11 : cX5_daybook.data.toList.drop 256 = dktX5_daybook_11 := dk_seg dksX5_daybook_10 22 rfl rfl
theorem dX5_daybook_0 : decode cX5_daybook 0 = .ok (.aload_n 0, 1) := dk_42 (dk_at dksX5_daybook_0 0 rfl rfl)
theorem dX5_daybook_1 : decode cX5_daybook 1 = .ok (.iconst 0, 1) := dk_3 (dk_at dksX5_daybook_0 1 rfl rfl)
theorem dX5_daybook_2 : decode cX5_daybook 2 = .ok (.putfield 1, 3) := dk_181 0 1 (dk_at dksX5_daybook_0 2 rfl rfl)
theorem dX5_daybook_5 : decode cX5_daybook 5 = .ok (.iload_n 1, 1) := dk_27 (dk_at dksX5_daybook_0 5 rfl rfl)
theorem dX5_daybook_6 : decode cX5_daybook 6 = .ok (.iconst 0, 1) := dk_3 (dk_at dksX5_daybook_0 6 rfl rfl)
theorem dX5_daybook_7 : decode cX5_daybook 7 = .ok (.iconst 1, 1) := dk_4 (dk_at dksX5_daybook_0 7 rfl rfl)
theorem dX5_daybook_8 : decode cX5_daybook 8 = .ok (.invokestatic 187, 3) := dk_184 0 187 (dk_at dksX5_daybook_0 8 rfl rfl)
theorem dX5_daybook_11 : decode cX5_daybook 11 = .ok (.ifCond .ne 7, 3) := dk_154 0 7 (dk_at dksX5_daybook_0 11 rfl rfl)
theorem dX5_daybook_14 : decode cX5_daybook 14 = .ok (.sipush (-1000), 3) := dk_17 252 24 (dk_at dksX5_daybook_0 14 rfl rfl)
theorem dX5_daybook_17 : decode cX5_daybook 17 = .ok (.ireturn, 1) := dk_172 (dk_at dksX5_daybook_0 17 rfl rfl)
theorem dX5_daybook_18 : decode cX5_daybook 18 = .ok (.aload_n 0, 1) := dk_42 (dk_at dksX5_daybook_0 18 rfl rfl)
theorem dX5_daybook_19 : decode cX5_daybook 19 = .ok (.sipush 500, 3) := dk_17 1 244 (dk_at dksX5_daybook_0 19 rfl rfl)
theorem dX5_daybook_22 : decode cX5_daybook 22 = .ok (.invokevirtual 229, 3) := dk_182 0 229 (dk_at dksX5_daybook_1 0 rfl rfl)
theorem dX5_daybook_25 : decode cX5_daybook 25 = .ok (.aload_n 0, 1) := dk_42 (dk_at dksX5_daybook_1 3 rfl rfl)
theorem dX5_daybook_26 : decode cX5_daybook 26 = .ok (.iconst 0, 1) := dk_3 (dk_at dksX5_daybook_1 4 rfl rfl)
theorem dX5_daybook_27 : decode cX5_daybook 27 = .ok (.putfield 172, 3) := dk_181 0 172 (dk_at dksX5_daybook_1 5 rfl rfl)
theorem dX5_daybook_30 : decode cX5_daybook 30 = .ok (.aload_n 0, 1) := dk_42 (dk_at dksX5_daybook_1 8 rfl rfl)
theorem dX5_daybook_31 : decode cX5_daybook 31 = .ok (.iconst 0, 1) := dk_3 (dk_at dksX5_daybook_1 9 rfl rfl)
theorem dX5_daybook_32 : decode cX5_daybook 32 = .ok (.putfield 398, 3) := dk_181 1 142 (dk_at dksX5_daybook_1 10 rfl rfl)
theorem dX5_daybook_35 : decode cX5_daybook 35 = .ok (.aload_n 0, 1) := dk_42 (dk_at dksX5_daybook_1 13 rfl rfl)
theorem dX5_daybook_36 : decode cX5_daybook 36 = .ok (.invokevirtual 184, 3) := dk_182 0 184 (dk_at dksX5_daybook_1 14 rfl rfl)
theorem dX5_daybook_39 : decode cX5_daybook 39 = .ok (.aload_n 0, 1) := dk_42 (dk_at dksX5_daybook_1 17 rfl rfl)
theorem dX5_daybook_40 : decode cX5_daybook 40 = .ok (.getfield 155, 3) := dk_180 0 155 (dk_at dksX5_daybook_1 18 rfl rfl)
theorem dX5_daybook_43 : decode cX5_daybook 43 = .ok (.ifCond .eq 40, 3) := dk_153 0 40 (dk_at dksX5_daybook_1 21 rfl rfl)
theorem dX5_daybook_46 : decode cX5_daybook 46 = .ok (.aload_n 0, 1) := dk_42 (dk_at dksX5_daybook_2 0 rfl rfl)
theorem dX5_daybook_47 : decode cX5_daybook 47 = .ok (.invokevirtual 401, 3) := dk_182 1 145 (dk_at dksX5_daybook_2 1 rfl rfl)
theorem dX5_daybook_50 : decode cX5_daybook 50 = .ok (.ifCond .eq 12, 3) := dk_153 0 12 (dk_at dksX5_daybook_2 4 rfl rfl)
theorem dX5_daybook_53 : decode cX5_daybook 53 = .ok (.aload_n 0, 1) := dk_42 (dk_at dksX5_daybook_2 7 rfl rfl)
theorem dX5_daybook_54 : decode cX5_daybook 54 = .ok (.bipush 59, 2) := dk_16 59 (dk_at dksX5_daybook_2 8 rfl rfl)
theorem dX5_daybook_56 : decode cX5_daybook 56 = .ok (.invokevirtual 238, 3) := dk_182 0 238 (dk_at dksX5_daybook_2 10 rfl rfl)
theorem dX5_daybook_59 : decode cX5_daybook 59 = .ok (.ifCond .ne 11, 3) := dk_154 0 11 (dk_at dksX5_daybook_2 13 rfl rfl)
theorem dX5_daybook_62 : decode cX5_daybook 62 = .ok (.bipush (-2), 2) := dk_16 254 (dk_at dksX5_daybook_2 16 rfl rfl)
theorem dX5_daybook_64 : decode cX5_daybook 64 = .ok (.aload_n 0, 1) := dk_42 (dk_at dksX5_daybook_2 18 rfl rfl)
theorem dX5_daybook_65 : decode cX5_daybook 65 = .ok (.getfield 175, 3) := dk_180 0 175 (dk_at dksX5_daybook_2 19 rfl rfl)
theorem dX5_daybook_68 : decode cX5_daybook 68 = .ok (.isub, 1) := dk_100 (dk_at dksX5_daybook_2 22 rfl rfl)
theorem dX5_daybook_69 : decode cX5_daybook 69 = .ok (.ireturn, 1) := dk_172 (dk_at dksX5_daybook_2 23 rfl rfl)
theorem dX5_daybook_70 : decode cX5_daybook 70 = .ok (.aload_n 0, 1) := dk_42 (dk_at dksX5_daybook_3 0 rfl rfl)
theorem dX5_daybook_71 : decode cX5_daybook 71 = .ok (.dup, 1) := dk_89 (dk_at dksX5_daybook_3 1 rfl rfl)
theorem dX5_daybook_72 : decode cX5_daybook 72 = .ok (.getfield 398, 3) := dk_180 1 142 (dk_at dksX5_daybook_3 2 rfl rfl)
theorem dX5_daybook_75 : decode cX5_daybook 75 = .ok (.iconst 1, 1) := dk_4 (dk_at dksX5_daybook_3 5 rfl rfl)
theorem dX5_daybook_76 : decode cX5_daybook 76 = .ok (.iadd, 1) := dk_96 (dk_at dksX5_daybook_3 6 rfl rfl)
theorem dX5_daybook_77 : decode cX5_daybook 77 = .ok (.putfield 398, 3) := dk_181 1 142 (dk_at dksX5_daybook_3 7 rfl rfl)
theorem dX5_daybook_80 : decode cX5_daybook 80 = .ok (.goto (-41), 3) := dk_167 255 215 (dk_at dksX5_daybook_3 10 rfl rfl)
theorem dX5_daybook_83 : decode cX5_daybook 83 = .ok (.aload_n 0, 1) := dk_42 (dk_at dksX5_daybook_3 13 rfl rfl)
theorem dX5_daybook_84 : decode cX5_daybook 84 = .ok (.invokevirtual 392, 3) := dk_182 1 136 (dk_at dksX5_daybook_3 14 rfl rfl)
theorem dX5_daybook_87 : decode cX5_daybook 87 = .ok (.iconst 0, 1) := dk_3 (dk_at dksX5_daybook_3 17 rfl rfl)
theorem dX5_daybook_88 : decode cX5_daybook 88 = .ok (.istore_n 2, 1) := dk_61 (dk_at dksX5_daybook_3 18 rfl rfl)
theorem dX5_daybook_89 : decode cX5_daybook 89 = .ok (.iload_n 2, 1) := dk_28 (dk_at dksX5_daybook_3 19 rfl rfl)
theorem dX5_daybook_90 : decode cX5_daybook 90 = .ok (.iconst 4, 1) := dk_7 (dk_at dksX5_daybook_3 20 rfl rfl)
theorem dX5_daybook_91 : decode cX5_daybook 91 = .ok (.if_icmp .ge 16, 3) := dk_162 0 16 (dk_at dksX5_daybook_3 21 rfl rfl)
theorem dX5_daybook_94 : decode cX5_daybook 94 = .ok (.aload_n 0, 1) := dk_42 (dk_at dksX5_daybook_4 0 rfl rfl)
theorem dX5_daybook_95 : decode cX5_daybook 95 = .ok (.getfield 72, 3) := dk_180 0 72 (dk_at dksX5_daybook_4 1 rfl rfl)
theorem dX5_daybook_98 : decode cX5_daybook 98 = .ok (.iload_n 2, 1) := dk_28 (dk_at dksX5_daybook_4 4 rfl rfl)
theorem dX5_daybook_99 : decode cX5_daybook 99 = .ok (.iconst 0, 1) := dk_3 (dk_at dksX5_daybook_4 5 rfl rfl)
theorem dX5_daybook_100 : decode cX5_daybook 100 = .ok (.iastore, 1) := dk_79 (dk_at dksX5_daybook_4 6 rfl rfl)
theorem dX5_daybook_101 : decode cX5_daybook 101 = .ok (.iinc 2 1, 3) := dk_132 2 1 (dk_at dksX5_daybook_4 7 rfl rfl)
theorem dX5_daybook_104 : decode cX5_daybook 104 = .ok (.goto (-15), 3) := dk_167 255 241 (dk_at dksX5_daybook_4 10 rfl rfl)
theorem dX5_daybook_107 : decode cX5_daybook 107 = .ok (.iconst (-1), 1) := dk_2 (dk_at dksX5_daybook_4 13 rfl rfl)
theorem dX5_daybook_108 : decode cX5_daybook 108 = .ok (.istore_n 2, 1) := dk_61 (dk_at dksX5_daybook_4 14 rfl rfl)
theorem dX5_daybook_109 : decode cX5_daybook 109 = .ok (.iconst 0, 1) := dk_3 (dk_at dksX5_daybook_4 15 rfl rfl)
theorem dX5_daybook_110 : decode cX5_daybook 110 = .ok (.istore_n 3, 1) := dk_62 (dk_at dksX5_daybook_4 16 rfl rfl)
theorem dX5_daybook_111 : decode cX5_daybook 111 = .ok (.iload_n 3, 1) := dk_29 (dk_at dksX5_daybook_4 17 rfl rfl)
theorem dX5_daybook_112 : decode cX5_daybook 112 = .ok (.aload_n 0, 1) := dk_42 (dk_at dksX5_daybook_4 18 rfl rfl)
theorem dX5_daybook_113 : decode cX5_daybook 113 = .ok (.getfield 398, 3) := dk_180 1 142 (dk_at dksX5_daybook_4 19 rfl rfl)
theorem dX5_daybook_116 : decode cX5_daybook 116 = .ok (.if_icmp .ge 50, 3) := dk_162 0 50 (dk_at dksX5_daybook_5 0 rfl rfl)
theorem dX5_daybook_119 : decode cX5_daybook 119 = .ok (.iload_n 2, 1) := dk_28 (dk_at dksX5_daybook_5 3 rfl rfl)
theorem dX5_daybook_120 : decode cX5_daybook 120 = .ok (.ifCond .ge 46, 3) := dk_156 0 46 (dk_at dksX5_daybook_5 4 rfl rfl)
theorem dX5_daybook_123 : decode cX5_daybook 123 = .ok (.aload_n 0, 1) := dk_42 (dk_at dksX5_daybook_5 7 rfl rfl)
theorem dX5_daybook_124 : decode cX5_daybook 124 = .ok (.getfield 72, 3) := dk_180 0 72 (dk_at dksX5_daybook_5 8 rfl rfl)
theorem dX5_daybook_127 : decode cX5_daybook 127 = .ok (.iconst 0, 1) := dk_3 (dk_at dksX5_daybook_5 11 rfl rfl)
theorem dX5_daybook_128 : decode cX5_daybook 128 = .ok (.aload_n 0, 1) := dk_42 (dk_at dksX5_daybook_5 12 rfl rfl)
theorem dX5_daybook_129 : decode cX5_daybook 129 = .ok (.iconst 3, 1) := dk_6 (dk_at dksX5_daybook_5 13 rfl rfl)
theorem dX5_daybook_130 : decode cX5_daybook 130 = .ok (.iload_n 3, 1) := dk_29 (dk_at dksX5_daybook_5 14 rfl rfl)
theorem dX5_daybook_131 : decode cX5_daybook 131 = .ok (.imul, 1) := dk_104 (dk_at dksX5_daybook_5 15 rfl rfl)
theorem dX5_daybook_132 : decode cX5_daybook 132 = .ok (.invokevirtual 404, 3) := dk_182 1 148 (dk_at dksX5_daybook_5 16 rfl rfl)
theorem dX5_daybook_135 : decode cX5_daybook 135 = .ok (.iastore, 1) := dk_79 (dk_at dksX5_daybook_5 19 rfl rfl)
theorem dX5_daybook_136 : decode cX5_daybook 136 = .ok (.aload_n 0, 1) := dk_42 (dk_at dksX5_daybook_5 20 rfl rfl)
theorem dX5_daybook_137 : decode cX5_daybook 137 = .ok (.getfield 72, 3) := dk_180 0 72 (dk_at dksX5_daybook_5 21 rfl rfl)
theorem dX5_daybook_140 : decode cX5_daybook 140 = .ok (.iconst 0, 1) := dk_3 (dk_at dksX5_daybook_6 0 rfl rfl)
theorem dX5_daybook_141 : decode cX5_daybook 141 = .ok (.iaload, 1) := dk_46 (dk_at dksX5_daybook_6 1 rfl rfl)
theorem dX5_daybook_142 : decode cX5_daybook 142 = .ok (.ifCond .le 8, 3) := dk_158 0 8 (dk_at dksX5_daybook_6 2 rfl rfl)
theorem dX5_daybook_145 : decode cX5_daybook 145 = .ok (.iload_n 3, 1) := dk_29 (dk_at dksX5_daybook_6 5 rfl rfl)
theorem dX5_daybook_146 : decode cX5_daybook 146 = .ok (.istore_n 2, 1) := dk_61 (dk_at dksX5_daybook_6 6 rfl rfl)
theorem dX5_daybook_147 : decode cX5_daybook 147 = .ok (.goto 13, 3) := dk_167 0 13 (dk_at dksX5_daybook_6 7 rfl rfl)
theorem dX5_daybook_150 : decode cX5_daybook 150 = .ok (.aload_n 0, 1) := dk_42 (dk_at dksX5_daybook_6 10 rfl rfl)
theorem dX5_daybook_151 : decode cX5_daybook 151 = .ok (.getfield 72, 3) := dk_180 0 72 (dk_at dksX5_daybook_6 11 rfl rfl)
theorem dX5_daybook_154 : decode cX5_daybook 154 = .ok (.iconst 1, 1) := dk_4 (dk_at dksX5_daybook_6 14 rfl rfl)
theorem dX5_daybook_155 : decode cX5_daybook 155 = .ok (.dup2, 1) := dk_92 (dk_at dksX5_daybook_6 15 rfl rfl)
theorem dX5_daybook_156 : decode cX5_daybook 156 = .ok (.iaload, 1) := dk_46 (dk_at dksX5_daybook_6 16 rfl rfl)
theorem dX5_daybook_157 : decode cX5_daybook 157 = .ok (.iconst 1, 1) := dk_4 (dk_at dksX5_daybook_6 17 rfl rfl)
theorem dX5_daybook_158 : decode cX5_daybook 158 = .ok (.iadd, 1) := dk_96 (dk_at dksX5_daybook_6 18 rfl rfl)
theorem dX5_daybook_159 : decode cX5_daybook 159 = .ok (.iastore, 1) := dk_79 (dk_at dksX5_daybook_6 19 rfl rfl)
theorem dX5_daybook_160 : decode cX5_daybook 160 = .ok (.iinc 3 1, 3) := dk_132 3 1 (dk_at dksX5_daybook_6 20 rfl rfl)
theorem dX5_daybook_163 : decode cX5_daybook 163 = .ok (.goto (-52), 3) := dk_167 255 204 (dk_at dksX5_daybook_7 0 rfl rfl)
theorem dX5_daybook_166 : decode cX5_daybook 166 = .ok (.aload_n 0, 1) := dk_42 (dk_at dksX5_daybook_7 3 rfl rfl)
theorem dX5_daybook_167 : decode cX5_daybook 167 = .ok (.getfield 72, 3) := dk_180 0 72 (dk_at dksX5_daybook_7 4 rfl rfl)
theorem dX5_daybook_170 : decode cX5_daybook 170 = .ok (.iconst 2, 1) := dk_5 (dk_at dksX5_daybook_7 7 rfl rfl)
theorem dX5_daybook_171 : decode cX5_daybook 171 = .ok (.aload_n 0, 1) := dk_42 (dk_at dksX5_daybook_7 8 rfl rfl)
theorem dX5_daybook_172 : decode cX5_daybook 172 = .ok (.getfield 33, 3) := dk_180 0 33 (dk_at dksX5_daybook_7 9 rfl rfl)
theorem dX5_daybook_175 : decode cX5_daybook 175 = .ok (.bipush 106, 2) := dk_16 106 (dk_at dksX5_daybook_7 12 rfl rfl)
theorem dX5_daybook_177 : decode cX5_daybook 177 = .ok (.iaload, 1) := dk_46 (dk_at dksX5_daybook_7 14 rfl rfl)
theorem dX5_daybook_178 : decode cX5_daybook 178 = .ok (.iastore, 1) := dk_79 (dk_at dksX5_daybook_7 15 rfl rfl)
theorem dX5_daybook_179 : decode cX5_daybook 179 = .ok (.aload_n 0, 1) := dk_42 (dk_at dksX5_daybook_7 16 rfl rfl)
theorem dX5_daybook_180 : decode cX5_daybook 180 = .ok (.getfield 72, 3) := dk_180 0 72 (dk_at dksX5_daybook_7 17 rfl rfl)
theorem dX5_daybook_183 : decode cX5_daybook 183 = .ok (.iconst 3, 1) := dk_6 (dk_at dksX5_daybook_7 20 rfl rfl)
theorem dX5_daybook_184 : decode cX5_daybook 184 = .ok (.aload_n 0, 1) := dk_42 (dk_at dksX5_daybook_7 21 rfl rfl)
theorem dX5_daybook_185 : decode cX5_daybook 185 = .ok (.iconst 5, 1) := dk_8 (dk_at dksX5_daybook_7 22 rfl rfl)
theorem dX5_daybook_186 : decode cX5_daybook 186 = .ok (.invokevirtual 407, 3) := dk_182 1 151 (dk_at dksX5_daybook_8 0 rfl rfl)
theorem dX5_daybook_189 : decode cX5_daybook 189 = .ok (.iastore, 1) := dk_79 (dk_at dksX5_daybook_8 3 rfl rfl)
theorem dX5_daybook_190 : decode cX5_daybook 190 = .ok (.aload_n 0, 1) := dk_42 (dk_at dksX5_daybook_8 4 rfl rfl)
theorem dX5_daybook_191 : decode cX5_daybook 191 = .ok (.iconst 1, 1) := dk_4 (dk_at dksX5_daybook_8 5 rfl rfl)
theorem dX5_daybook_192 : decode cX5_daybook 192 = .ok (.putfield 410, 3) := dk_181 1 154 (dk_at dksX5_daybook_8 6 rfl rfl)
theorem dX5_daybook_195 : decode cX5_daybook 195 = .ok (.iload_n 1, 1) := dk_27 (dk_at dksX5_daybook_8 9 rfl rfl)
theorem dX5_daybook_196 : decode cX5_daybook 196 = .ok (.iconst 1, 1) := dk_4 (dk_at dksX5_daybook_8 10 rfl rfl)
theorem dX5_daybook_197 : decode cX5_daybook 197 = .ok (.if_icmp .ne 54, 3) := dk_160 0 54 (dk_at dksX5_daybook_8 11 rfl rfl)
theorem dX5_daybook_200 : decode cX5_daybook 200 = .ok (.aload_n 0, 1) := dk_42 (dk_at dksX5_daybook_8 14 rfl rfl)
theorem dX5_daybook_201 : decode cX5_daybook 201 = .ok (.getfield 72, 3) := dk_180 0 72 (dk_at dksX5_daybook_8 15 rfl rfl)
theorem dX5_daybook_204 : decode cX5_daybook 204 = .ok (.iconst 1, 1) := dk_4 (dk_at dksX5_daybook_8 18 rfl rfl)
theorem dX5_daybook_205 : decode cX5_daybook 205 = .ok (.iaload, 1) := dk_46 (dk_at dksX5_daybook_8 19 rfl rfl)
theorem dX5_daybook_206 : decode cX5_daybook 206 = .ok (.ifCond .le 45, 3) := dk_158 0 45 (dk_at dksX5_daybook_8 20 rfl rfl)
theorem dX5_daybook_209 : decode cX5_daybook 209 = .ok (.aload_n 0, 1) := dk_42 (dk_at dksX5_daybook_8 23 rfl rfl)
theorem dX5_daybook_210 : decode cX5_daybook 210 = .ok (.invokevirtual 269, 3) := dk_182 1 13 (dk_at dksX5_daybook_9 0 rfl rfl)
theorem dX5_daybook_213 : decode cX5_daybook 213 = .ok (.iconst 0, 1) := dk_3 (dk_at dksX5_daybook_9 3 rfl rfl)
theorem dX5_daybook_214 : decode cX5_daybook 214 = .ok (.istore_n 3, 1) := dk_62 (dk_at dksX5_daybook_9 4 rfl rfl)
theorem dX5_daybook_215 : decode cX5_daybook 215 = .ok (.iload_n 3, 1) := dk_29 (dk_at dksX5_daybook_9 5 rfl rfl)
theorem dX5_daybook_216 : decode cX5_daybook 216 = .ok (.sipush 370, 3) := dk_17 1 114 (dk_at dksX5_daybook_9 6 rfl rfl)
theorem dX5_daybook_219 : decode cX5_daybook 219 = .ok (.if_icmp .ge 32, 3) := dk_162 0 32 (dk_at dksX5_daybook_9 9 rfl rfl)
theorem dX5_daybook_222 : decode cX5_daybook 222 = .ok (.aload_n 0, 1) := dk_42 (dk_at dksX5_daybook_9 12 rfl rfl)
theorem dX5_daybook_223 : decode cX5_daybook 223 = .ok (.getfield 53, 3) := dk_180 0 53 (dk_at dksX5_daybook_9 13 rfl rfl)
theorem dX5_daybook_226 : decode cX5_daybook 226 = .ok (.sipush 370, 3) := dk_17 1 114 (dk_at dksX5_daybook_9 16 rfl rfl)
theorem dX5_daybook_229 : decode cX5_daybook 229 = .ok (.aload_n 0, 1) := dk_42 (dk_at dksX5_daybook_9 19 rfl rfl)
theorem dX5_daybook_230 : decode cX5_daybook 230 = .ok (.getfield 241, 3) := dk_180 0 241 (dk_at dksX5_daybook_9 20 rfl rfl)
theorem dX5_daybook_233 : decode cX5_daybook 233 = .ok (.iconst 1, 1) := dk_4 (dk_at dksX5_daybook_9 23 rfl rfl)
theorem dX5_daybook_234 : decode cX5_daybook 234 = .ok (.isub, 1) := dk_100 (dk_at dksX5_daybook_10 0 rfl rfl)
theorem dX5_daybook_235 : decode cX5_daybook 235 = .ok (.imul, 1) := dk_104 (dk_at dksX5_daybook_10 1 rfl rfl)
theorem dX5_daybook_236 : decode cX5_daybook 236 = .ok (.iload_n 3, 1) := dk_29 (dk_at dksX5_daybook_10 2 rfl rfl)
theorem dX5_daybook_237 : decode cX5_daybook 237 = .ok (.iadd, 1) := dk_96 (dk_at dksX5_daybook_10 3 rfl rfl)
theorem dX5_daybook_238 : decode cX5_daybook 238 = .ok (.aload_n 0, 1) := dk_42 (dk_at dksX5_daybook_10 4 rfl rfl)
theorem dX5_daybook_239 : decode cX5_daybook 239 = .ok (.getfield 56, 3) := dk_180 0 56 (dk_at dksX5_daybook_10 5 rfl rfl)
theorem dX5_daybook_242 : decode cX5_daybook 242 = .ok (.iload_n 3, 1) := dk_29 (dk_at dksX5_daybook_10 8 rfl rfl)
theorem dX5_daybook_243 : decode cX5_daybook 243 = .ok (.iaload, 1) := dk_46 (dk_at dksX5_daybook_10 9 rfl rfl)
theorem dX5_daybook_244 : decode cX5_daybook 244 = .ok (.iastore, 1) := dk_79 (dk_at dksX5_daybook_10 10 rfl rfl)
theorem dX5_daybook_245 : decode cX5_daybook 245 = .ok (.iinc 3 1, 3) := dk_132 3 1 (dk_at dksX5_daybook_10 11 rfl rfl)
theorem dX5_daybook_248 : decode cX5_daybook 248 = .ok (.goto (-33), 3) := dk_167 255 223 (dk_at dksX5_daybook_10 14 rfl rfl)
theorem dX5_daybook_251 : decode cX5_daybook 251 = .ok (.iload_n 1, 1) := dk_27 (dk_at dksX5_daybook_10 17 rfl rfl)
theorem dX5_daybook_252 : decode cX5_daybook 252 = .ok (.ifCond .ne 7, 3) := dk_154 0 7 (dk_at dksX5_daybook_10 18 rfl rfl)
theorem dX5_daybook_255 : decode cX5_daybook 255 = .ok (.aload_n 0, 1) := dk_42 (dk_at dksX5_daybook_10 21 rfl rfl)
theorem dX5_daybook_256 : decode cX5_daybook 256 = .ok (.invokevirtual 395, 3) := dk_182 1 139 (dk_at dksX5_daybook_11 0 rfl rfl)
theorem dX5_daybook_259 : decode cX5_daybook 259 = .ok (.iload_n 2, 1) := dk_28 (dk_at dksX5_daybook_11 3 rfl rfl)
theorem dX5_daybook_260 : decode cX5_daybook 260 = .ok (.ireturn, 1) := dk_172 (dk_at dksX5_daybook_11 4 rfl rfl)
abbrev cX5_bookLine : ByteArray := prog_26_method_101_code
def yX5_bookLine : MethodName := ⟨RX5, "bookLine", "()Z"⟩
def dkwX5_bookLine_10 : List UInt8 := [154, 0, 5, 3, 172, 42, 180, 0, 40, 27, 5, 96, 42, 180, 0, 191, 79, 4, 172]
abbrev dktX5_bookLine_10 : List UInt8 := dkwX5_bookLine_10 ++ []
def dkwX5_bookLine_9 : List UInt8 := [154, 0, 7, 4, 167, 0, 14, 28, 4, 160, 0, 7, 8, 167, 0, 5, 16, 6, 46, 182, 0, 220]
abbrev dktX5_bookLine_9 : List UInt8 := dkwX5_bookLine_9 ++ dktX5_bookLine_10
def dkwX5_bookLine_8 : List UInt8 := [154, 0, 7, 3, 167, 0, 15, 28, 4, 160, 0, 8, 16, 12, 167, 0, 5, 16, 18, 42, 180, 0, 33, 28]
abbrev dktX5_bookLine_8 : List UInt8 := dkwX5_bookLine_8 ++ dktX5_bookLine_9
def dkwX5_bookLine_7 : List UInt8 := [156, 0, 9, 42, 4, 182, 0, 181, 172, 42, 180, 0, 40, 27, 28, 79, 42, 182, 0, 184, 42, 28]
abbrev dktX5_bookLine_7 : List UInt8 := dkwX5_bookLine_7 ++ dktX5_bookLine_8
def dkwX5_bookLine_6 : List UInt8 := [153, 0, 7, 4, 167, 0, 18, 42, 20, 0, 115, 182, 0, 206, 153, 0, 7, 5, 167, 0, 4, 2, 61, 28]
abbrev dktX5_bookLine_6 : List UInt8 := dkwX5_bookLine_6 ++ dktX5_bookLine_7
def dkwX5_bookLine_5 : List UInt8 := [182, 0, 184, 42, 20, 0, 111, 182, 0, 206, 153, 0, 7, 3, 167, 0, 32, 42, 20, 0, 113, 182, 0, 206]
abbrev dktX5_bookLine_5 : List UInt8 := dkwX5_bookLine_5 ++ dktX5_bookLine_6
def dkwX5_bookLine_4 : List UInt8 := [160, 0, 9, 42, 7, 182, 0, 181, 172, 42, 180, 0, 40, 27, 4, 96, 42, 180, 0, 191, 79, 42]
abbrev dktX5_bookLine_4 : List UInt8 := dkwX5_bookLine_4 ++ dktX5_bookLine_5
def dkwX5_bookLine_3 : List UInt8 := [16, 8, 42, 180, 0, 33, 7, 46, 182, 0, 202, 154, 0, 5, 3, 172, 42, 180, 1, 142, 16, 40]
abbrev dktX5_bookLine_3 : List UInt8 := dkwX5_bookLine_3 ++ dktX5_bookLine_4
def dkwX5_bookLine_2 : List UInt8 := [172, 42, 180, 0, 40, 27, 6, 79, 42, 180, 0, 40, 27, 4, 96, 42, 180, 0, 191, 79, 4, 172, 42]
abbrev dktX5_bookLine_2 : List UInt8 := dkwX5_bookLine_2 ++ dktX5_bookLine_3
def dkwX5_bookLine_1 : List UInt8 := [160, 0, 9, 42, 7, 182, 0, 181, 172, 42, 182, 0, 184, 42, 4, 16, 99, 182, 0, 214, 154, 0, 5, 3]
abbrev dktX5_bookLine_1 : List UInt8 := dkwX5_bookLine_1 ++ dktX5_bookLine_2
def dkwX5_bookLine_0 : List UInt8 := [6, 42, 180, 1, 142, 104, 60, 42, 20, 0, 117, 182, 0, 206, 153, 0, 55, 42, 180, 1, 142, 16, 40]
abbrev dktX5_bookLine_0 : List UInt8 := dkwX5_bookLine_0 ++ dktX5_bookLine_1
theorem dksX5_bookLine_0 : cX5_bookLine.data.toList.drop 0 = dktX5_bookLine_0 := by decide +kernel
theorem dksX5_bookLine_1 : cX5_bookLine.data.toList.drop 23 = dktX5_bookLine_1 := dk_seg dksX5_bookLine_0 23 rfl rfl
theorem dksX5_bookLine_2 : cX5_bookLine.data.toList.drop 47 = dktX5_bookLine_2 := dk_seg dksX5_bookLine_1 24 rfl rfl
theorem dksX5_bookLine_3 : cX5_bookLine.data.toList.drop 70 = dktX5_bookLine_3 := dk_seg dksX5_bookLine_2 23 rfl rfl
theorem dksX5_bookLine_4 : cX5_bookLine.data.toList.drop 92 = dktX5_bookLine_4 := dk_seg dksX5_bookLine_3 22 rfl rfl
theorem dksX5_bookLine_5 : cX5_bookLine.data.toList.drop 114 = dktX5_bookLine_5 := dk_seg dksX5_bookLine_4 22 rfl rfl
theorem dksX5_bookLine_6 : cX5_bookLine.data.toList.drop 138 = dktX5_bookLine_6 := dk_seg dksX5_bookLine_5 24 rfl rfl
theorem dksX5_bookLine_7 : cX5_bookLine.data.toList.drop 162 = dktX5_bookLine_7 := dk_seg dksX5_bookLine_6 24 rfl rfl
theorem dksX5_bookLine_8 : cX5_bookLine.data.toList.drop 184 = dktX5_bookLine_8 := dk_seg dksX5_bookLine_7 22 rfl rfl
theorem dksX5_bookLine_9 : cX5_bookLine.data.toList.drop 208 = dktX5_bookLine_9 := dk_seg dksX5_bookLine_8 24 rfl rfl
theorem dksX5_bookLine_10 : cX5_bookLine.data.toList.drop 230 = dktX5_bookLine_10 := dk_seg dksX5_bookLine_9 22 rfl rfl
theorem dX5_bookLine_0 : decode cX5_bookLine 0 = .ok (.iconst 3, 1) := dk_6 (dk_at dksX5_bookLine_0 0 rfl rfl)
theorem dX5_bookLine_1 : decode cX5_bookLine 1 = .ok (.aload_n 0, 1) := dk_42 (dk_at dksX5_bookLine_0 1 rfl rfl)
theorem dX5_bookLine_2 : decode cX5_bookLine 2 = .ok (.getfield 398, 3) := dk_180 1 142 (dk_at dksX5_bookLine_0 2 rfl rfl)
theorem dX5_bookLine_5 : decode cX5_bookLine 5 = .ok (.imul, 1) := dk_104 (dk_at dksX5_bookLine_0 5 rfl rfl)
theorem dX5_bookLine_6 : decode cX5_bookLine 6 = .ok (.istore_n 1, 1) := dk_60 (dk_at dksX5_bookLine_0 6 rfl rfl)
theorem dX5_bookLine_7 : decode cX5_bookLine 7 = .ok (.aload_n 0, 1) := dk_42 (dk_at dksX5_bookLine_0 7 rfl rfl)
theorem dX5_bookLine_8 : decode cX5_bookLine 8 = .ok (.ldc2_w 117, 3) := dk_20 0 117 (dk_at dksX5_bookLine_0 8 rfl rfl)
theorem dX5_bookLine_11 : decode cX5_bookLine 11 = .ok (.invokevirtual 206, 3) := dk_182 0 206 (dk_at dksX5_bookLine_0 11 rfl rfl)
theorem dX5_bookLine_14 : decode cX5_bookLine 14 = .ok (.ifCond .eq 55, 3) := dk_153 0 55 (dk_at dksX5_bookLine_0 14 rfl rfl)
theorem dX5_bookLine_17 : decode cX5_bookLine 17 = .ok (.aload_n 0, 1) := dk_42 (dk_at dksX5_bookLine_0 17 rfl rfl)
theorem dX5_bookLine_18 : decode cX5_bookLine 18 = .ok (.getfield 398, 3) := dk_180 1 142 (dk_at dksX5_bookLine_0 18 rfl rfl)
theorem dX5_bookLine_21 : decode cX5_bookLine 21 = .ok (.bipush 40, 2) := dk_16 40 (dk_at dksX5_bookLine_0 21 rfl rfl)
theorem dX5_bookLine_23 : decode cX5_bookLine 23 = .ok (.if_icmp .ne 9, 3) := dk_160 0 9 (dk_at dksX5_bookLine_1 0 rfl rfl)
theorem dX5_bookLine_26 : decode cX5_bookLine 26 = .ok (.aload_n 0, 1) := dk_42 (dk_at dksX5_bookLine_1 3 rfl rfl)
theorem dX5_bookLine_27 : decode cX5_bookLine 27 = .ok (.iconst 4, 1) := dk_7 (dk_at dksX5_bookLine_1 4 rfl rfl)
theorem dX5_bookLine_28 : decode cX5_bookLine 28 = .ok (.invokevirtual 181, 3) := dk_182 0 181 (dk_at dksX5_bookLine_1 5 rfl rfl)
theorem dX5_bookLine_31 : decode cX5_bookLine 31 = .ok (.ireturn, 1) := dk_172 (dk_at dksX5_bookLine_1 8 rfl rfl)
theorem dX5_bookLine_32 : decode cX5_bookLine 32 = .ok (.aload_n 0, 1) := dk_42 (dk_at dksX5_bookLine_1 9 rfl rfl)
theorem dX5_bookLine_33 : decode cX5_bookLine 33 = .ok (.invokevirtual 184, 3) := dk_182 0 184 (dk_at dksX5_bookLine_1 10 rfl rfl)
theorem dX5_bookLine_36 : decode cX5_bookLine 36 = .ok (.aload_n 0, 1) := dk_42 (dk_at dksX5_bookLine_1 13 rfl rfl)
theorem dX5_bookLine_37 : decode cX5_bookLine 37 = .ok (.iconst 1, 1) := dk_4 (dk_at dksX5_bookLine_1 14 rfl rfl)
theorem dX5_bookLine_38 : decode cX5_bookLine 38 = .ok (.bipush 99, 2) := dk_16 99 (dk_at dksX5_bookLine_1 15 rfl rfl)
theorem dX5_bookLine_40 : decode cX5_bookLine 40 = .ok (.invokevirtual 214, 3) := dk_182 0 214 (dk_at dksX5_bookLine_1 17 rfl rfl)
theorem dX5_bookLine_43 : decode cX5_bookLine 43 = .ok (.ifCond .ne 5, 3) := dk_154 0 5 (dk_at dksX5_bookLine_1 20 rfl rfl)
theorem dX5_bookLine_46 : decode cX5_bookLine 46 = .ok (.iconst 0, 1) := dk_3 (dk_at dksX5_bookLine_1 23 rfl rfl)
theorem dX5_bookLine_47 : decode cX5_bookLine 47 = .ok (.ireturn, 1) := dk_172 (dk_at dksX5_bookLine_2 0 rfl rfl)
theorem dX5_bookLine_48 : decode cX5_bookLine 48 = .ok (.aload_n 0, 1) := dk_42 (dk_at dksX5_bookLine_2 1 rfl rfl)
theorem dX5_bookLine_49 : decode cX5_bookLine 49 = .ok (.getfield 40, 3) := dk_180 0 40 (dk_at dksX5_bookLine_2 2 rfl rfl)
theorem dX5_bookLine_52 : decode cX5_bookLine 52 = .ok (.iload_n 1, 1) := dk_27 (dk_at dksX5_bookLine_2 5 rfl rfl)
theorem dX5_bookLine_53 : decode cX5_bookLine 53 = .ok (.iconst 3, 1) := dk_6 (dk_at dksX5_bookLine_2 6 rfl rfl)
theorem dX5_bookLine_54 : decode cX5_bookLine 54 = .ok (.iastore, 1) := dk_79 (dk_at dksX5_bookLine_2 7 rfl rfl)
theorem dX5_bookLine_55 : decode cX5_bookLine 55 = .ok (.aload_n 0, 1) := dk_42 (dk_at dksX5_bookLine_2 8 rfl rfl)
theorem dX5_bookLine_56 : decode cX5_bookLine 56 = .ok (.getfield 40, 3) := dk_180 0 40 (dk_at dksX5_bookLine_2 9 rfl rfl)
theorem dX5_bookLine_59 : decode cX5_bookLine 59 = .ok (.iload_n 1, 1) := dk_27 (dk_at dksX5_bookLine_2 12 rfl rfl)
theorem dX5_bookLine_60 : decode cX5_bookLine 60 = .ok (.iconst 1, 1) := dk_4 (dk_at dksX5_bookLine_2 13 rfl rfl)
theorem dX5_bookLine_61 : decode cX5_bookLine 61 = .ok (.iadd, 1) := dk_96 (dk_at dksX5_bookLine_2 14 rfl rfl)
theorem dX5_bookLine_62 : decode cX5_bookLine 62 = .ok (.aload_n 0, 1) := dk_42 (dk_at dksX5_bookLine_2 15 rfl rfl)
theorem dX5_bookLine_63 : decode cX5_bookLine 63 = .ok (.getfield 191, 3) := dk_180 0 191 (dk_at dksX5_bookLine_2 16 rfl rfl)
theorem dX5_bookLine_66 : decode cX5_bookLine 66 = .ok (.iastore, 1) := dk_79 (dk_at dksX5_bookLine_2 19 rfl rfl)
theorem dX5_bookLine_67 : decode cX5_bookLine 67 = .ok (.iconst 1, 1) := dk_4 (dk_at dksX5_bookLine_2 20 rfl rfl)
theorem dX5_bookLine_68 : decode cX5_bookLine 68 = .ok (.ireturn, 1) := dk_172 (dk_at dksX5_bookLine_2 21 rfl rfl)
theorem dX5_bookLine_69 : decode cX5_bookLine 69 = .ok (.aload_n 0, 1) := dk_42 (dk_at dksX5_bookLine_2 22 rfl rfl)
theorem dX5_bookLine_70 : decode cX5_bookLine 70 = .ok (.bipush 8, 2) := dk_16 8 (dk_at dksX5_bookLine_3 0 rfl rfl)
theorem dX5_bookLine_72 : decode cX5_bookLine 72 = .ok (.aload_n 0, 1) := dk_42 (dk_at dksX5_bookLine_3 2 rfl rfl)
theorem dX5_bookLine_73 : decode cX5_bookLine 73 = .ok (.getfield 33, 3) := dk_180 0 33 (dk_at dksX5_bookLine_3 3 rfl rfl)
theorem dX5_bookLine_76 : decode cX5_bookLine 76 = .ok (.iconst 4, 1) := dk_7 (dk_at dksX5_bookLine_3 6 rfl rfl)
theorem dX5_bookLine_77 : decode cX5_bookLine 77 = .ok (.iaload, 1) := dk_46 (dk_at dksX5_bookLine_3 7 rfl rfl)
theorem dX5_bookLine_78 : decode cX5_bookLine 78 = .ok (.invokevirtual 202, 3) := dk_182 0 202 (dk_at dksX5_bookLine_3 8 rfl rfl)
theorem dX5_bookLine_81 : decode cX5_bookLine 81 = .ok (.ifCond .ne 5, 3) := dk_154 0 5 (dk_at dksX5_bookLine_3 11 rfl rfl)
theorem dX5_bookLine_84 : decode cX5_bookLine 84 = .ok (.iconst 0, 1) := dk_3 (dk_at dksX5_bookLine_3 14 rfl rfl)
theorem dX5_bookLine_85 : decode cX5_bookLine 85 = .ok (.ireturn, 1) := dk_172 (dk_at dksX5_bookLine_3 15 rfl rfl)
theorem dX5_bookLine_86 : decode cX5_bookLine 86 = .ok (.aload_n 0, 1) := dk_42 (dk_at dksX5_bookLine_3 16 rfl rfl)
theorem dX5_bookLine_87 : decode cX5_bookLine 87 = .ok (.getfield 398, 3) := dk_180 1 142 (dk_at dksX5_bookLine_3 17 rfl rfl)
theorem dX5_bookLine_90 : decode cX5_bookLine 90 = .ok (.bipush 40, 2) := dk_16 40 (dk_at dksX5_bookLine_3 20 rfl rfl)
theorem dX5_bookLine_92 : decode cX5_bookLine 92 = .ok (.if_icmp .ne 9, 3) := dk_160 0 9 (dk_at dksX5_bookLine_4 0 rfl rfl)
theorem dX5_bookLine_95 : decode cX5_bookLine 95 = .ok (.aload_n 0, 1) := dk_42 (dk_at dksX5_bookLine_4 3 rfl rfl)
theorem dX5_bookLine_96 : decode cX5_bookLine 96 = .ok (.iconst 4, 1) := dk_7 (dk_at dksX5_bookLine_4 4 rfl rfl)
theorem dX5_bookLine_97 : decode cX5_bookLine 97 = .ok (.invokevirtual 181, 3) := dk_182 0 181 (dk_at dksX5_bookLine_4 5 rfl rfl)
theorem dX5_bookLine_100 : decode cX5_bookLine 100 = .ok (.ireturn, 1) := dk_172 (dk_at dksX5_bookLine_4 8 rfl rfl)
theorem dX5_bookLine_101 : decode cX5_bookLine 101 = .ok (.aload_n 0, 1) := dk_42 (dk_at dksX5_bookLine_4 9 rfl rfl)
theorem dX5_bookLine_102 : decode cX5_bookLine 102 = .ok (.getfield 40, 3) := dk_180 0 40 (dk_at dksX5_bookLine_4 10 rfl rfl)
theorem dX5_bookLine_105 : decode cX5_bookLine 105 = .ok (.iload_n 1, 1) := dk_27 (dk_at dksX5_bookLine_4 13 rfl rfl)
theorem dX5_bookLine_106 : decode cX5_bookLine 106 = .ok (.iconst 1, 1) := dk_4 (dk_at dksX5_bookLine_4 14 rfl rfl)
theorem dX5_bookLine_107 : decode cX5_bookLine 107 = .ok (.iadd, 1) := dk_96 (dk_at dksX5_bookLine_4 15 rfl rfl)
theorem dX5_bookLine_108 : decode cX5_bookLine 108 = .ok (.aload_n 0, 1) := dk_42 (dk_at dksX5_bookLine_4 16 rfl rfl)
theorem dX5_bookLine_109 : decode cX5_bookLine 109 = .ok (.getfield 191, 3) := dk_180 0 191 (dk_at dksX5_bookLine_4 17 rfl rfl)
theorem dX5_bookLine_112 : decode cX5_bookLine 112 = .ok (.iastore, 1) := dk_79 (dk_at dksX5_bookLine_4 20 rfl rfl)
theorem dX5_bookLine_113 : decode cX5_bookLine 113 = .ok (.aload_n 0, 1) := dk_42 (dk_at dksX5_bookLine_4 21 rfl rfl)
theorem dX5_bookLine_114 : decode cX5_bookLine 114 = .ok (.invokevirtual 184, 3) := dk_182 0 184 (dk_at dksX5_bookLine_5 0 rfl rfl)
theorem dX5_bookLine_117 : decode cX5_bookLine 117 = .ok (.aload_n 0, 1) := dk_42 (dk_at dksX5_bookLine_5 3 rfl rfl)
theorem dX5_bookLine_118 : decode cX5_bookLine 118 = .ok (.ldc2_w 111, 3) := dk_20 0 111 (dk_at dksX5_bookLine_5 4 rfl rfl)
theorem dX5_bookLine_121 : decode cX5_bookLine 121 = .ok (.invokevirtual 206, 3) := dk_182 0 206 (dk_at dksX5_bookLine_5 7 rfl rfl)
theorem dX5_bookLine_124 : decode cX5_bookLine 124 = .ok (.ifCond .eq 7, 3) := dk_153 0 7 (dk_at dksX5_bookLine_5 10 rfl rfl)
theorem dX5_bookLine_127 : decode cX5_bookLine 127 = .ok (.iconst 0, 1) := dk_3 (dk_at dksX5_bookLine_5 13 rfl rfl)
theorem dX5_bookLine_128 : decode cX5_bookLine 128 = .ok (.goto 32, 3) := dk_167 0 32 (dk_at dksX5_bookLine_5 14 rfl rfl)
theorem dX5_bookLine_131 : decode cX5_bookLine 131 = .ok (.aload_n 0, 1) := dk_42 (dk_at dksX5_bookLine_5 17 rfl rfl)
theorem dX5_bookLine_132 : decode cX5_bookLine 132 = .ok (.ldc2_w 113, 3) := dk_20 0 113 (dk_at dksX5_bookLine_5 18 rfl rfl)
theorem dX5_bookLine_135 : decode cX5_bookLine 135 = .ok (.invokevirtual 206, 3) := dk_182 0 206 (dk_at dksX5_bookLine_5 21 rfl rfl)
theorem dX5_bookLine_138 : decode cX5_bookLine 138 = .ok (.ifCond .eq 7, 3) := dk_153 0 7 (dk_at dksX5_bookLine_6 0 rfl rfl)
theorem dX5_bookLine_141 : decode cX5_bookLine 141 = .ok (.iconst 1, 1) := dk_4 (dk_at dksX5_bookLine_6 3 rfl rfl)
theorem dX5_bookLine_142 : decode cX5_bookLine 142 = .ok (.goto 18, 3) := dk_167 0 18 (dk_at dksX5_bookLine_6 4 rfl rfl)
theorem dX5_bookLine_145 : decode cX5_bookLine 145 = .ok (.aload_n 0, 1) := dk_42 (dk_at dksX5_bookLine_6 7 rfl rfl)
theorem dX5_bookLine_146 : decode cX5_bookLine 146 = .ok (.ldc2_w 115, 3) := dk_20 0 115 (dk_at dksX5_bookLine_6 8 rfl rfl)
theorem dX5_bookLine_149 : decode cX5_bookLine 149 = .ok (.invokevirtual 206, 3) := dk_182 0 206 (dk_at dksX5_bookLine_6 11 rfl rfl)
theorem dX5_bookLine_152 : decode cX5_bookLine 152 = .ok (.ifCond .eq 7, 3) := dk_153 0 7 (dk_at dksX5_bookLine_6 14 rfl rfl)
theorem dX5_bookLine_155 : decode cX5_bookLine 155 = .ok (.iconst 2, 1) := dk_5 (dk_at dksX5_bookLine_6 17 rfl rfl)
theorem dX5_bookLine_156 : decode cX5_bookLine 156 = .ok (.goto 4, 3) := dk_167 0 4 (dk_at dksX5_bookLine_6 18 rfl rfl)
theorem dX5_bookLine_159 : decode cX5_bookLine 159 = .ok (.iconst (-1), 1) := dk_2 (dk_at dksX5_bookLine_6 21 rfl rfl)
theorem dX5_bookLine_160 : decode cX5_bookLine 160 = .ok (.istore_n 2, 1) := dk_61 (dk_at dksX5_bookLine_6 22 rfl rfl)
theorem dX5_bookLine_161 : decode cX5_bookLine 161 = .ok (.iload_n 2, 1) := dk_28 (dk_at dksX5_bookLine_6 23 rfl rfl)
theorem dX5_bookLine_162 : decode cX5_bookLine 162 = .ok (.ifCond .ge 9, 3) := dk_156 0 9 (dk_at dksX5_bookLine_7 0 rfl rfl)
theorem dX5_bookLine_165 : decode cX5_bookLine 165 = .ok (.aload_n 0, 1) := dk_42 (dk_at dksX5_bookLine_7 3 rfl rfl)
theorem dX5_bookLine_166 : decode cX5_bookLine 166 = .ok (.iconst 1, 1) := dk_4 (dk_at dksX5_bookLine_7 4 rfl rfl)
theorem dX5_bookLine_167 : decode cX5_bookLine 167 = .ok (.invokevirtual 181, 3) := dk_182 0 181 (dk_at dksX5_bookLine_7 5 rfl rfl)
theorem dX5_bookLine_170 : decode cX5_bookLine 170 = .ok (.ireturn, 1) := dk_172 (dk_at dksX5_bookLine_7 8 rfl rfl)
theorem dX5_bookLine_171 : decode cX5_bookLine 171 = .ok (.aload_n 0, 1) := dk_42 (dk_at dksX5_bookLine_7 9 rfl rfl)
theorem dX5_bookLine_172 : decode cX5_bookLine 172 = .ok (.getfield 40, 3) := dk_180 0 40 (dk_at dksX5_bookLine_7 10 rfl rfl)
theorem dX5_bookLine_175 : decode cX5_bookLine 175 = .ok (.iload_n 1, 1) := dk_27 (dk_at dksX5_bookLine_7 13 rfl rfl)
theorem dX5_bookLine_176 : decode cX5_bookLine 176 = .ok (.iload_n 2, 1) := dk_28 (dk_at dksX5_bookLine_7 14 rfl rfl)
theorem dX5_bookLine_177 : decode cX5_bookLine 177 = .ok (.iastore, 1) := dk_79 (dk_at dksX5_bookLine_7 15 rfl rfl)
theorem dX5_bookLine_178 : decode cX5_bookLine 178 = .ok (.aload_n 0, 1) := dk_42 (dk_at dksX5_bookLine_7 16 rfl rfl)
theorem dX5_bookLine_179 : decode cX5_bookLine 179 = .ok (.invokevirtual 184, 3) := dk_182 0 184 (dk_at dksX5_bookLine_7 17 rfl rfl)
theorem dX5_bookLine_182 : decode cX5_bookLine 182 = .ok (.aload_n 0, 1) := dk_42 (dk_at dksX5_bookLine_7 20 rfl rfl)
theorem dX5_bookLine_183 : decode cX5_bookLine 183 = .ok (.iload_n 2, 1) := dk_28 (dk_at dksX5_bookLine_7 21 rfl rfl)
theorem dX5_bookLine_184 : decode cX5_bookLine 184 = .ok (.ifCond .ne 7, 3) := dk_154 0 7 (dk_at dksX5_bookLine_8 0 rfl rfl)
theorem dX5_bookLine_187 : decode cX5_bookLine 187 = .ok (.iconst 0, 1) := dk_3 (dk_at dksX5_bookLine_8 3 rfl rfl)
theorem dX5_bookLine_188 : decode cX5_bookLine 188 = .ok (.goto 15, 3) := dk_167 0 15 (dk_at dksX5_bookLine_8 4 rfl rfl)
theorem dX5_bookLine_191 : decode cX5_bookLine 191 = .ok (.iload_n 2, 1) := dk_28 (dk_at dksX5_bookLine_8 7 rfl rfl)
theorem dX5_bookLine_192 : decode cX5_bookLine 192 = .ok (.iconst 1, 1) := dk_4 (dk_at dksX5_bookLine_8 8 rfl rfl)
theorem dX5_bookLine_193 : decode cX5_bookLine 193 = .ok (.if_icmp .ne 8, 3) := dk_160 0 8 (dk_at dksX5_bookLine_8 9 rfl rfl)
theorem dX5_bookLine_196 : decode cX5_bookLine 196 = .ok (.bipush 12, 2) := dk_16 12 (dk_at dksX5_bookLine_8 12 rfl rfl)
theorem dX5_bookLine_198 : decode cX5_bookLine 198 = .ok (.goto 5, 3) := dk_167 0 5 (dk_at dksX5_bookLine_8 14 rfl rfl)
theorem dX5_bookLine_201 : decode cX5_bookLine 201 = .ok (.bipush 18, 2) := dk_16 18 (dk_at dksX5_bookLine_8 17 rfl rfl)
theorem dX5_bookLine_203 : decode cX5_bookLine 203 = .ok (.aload_n 0, 1) := dk_42 (dk_at dksX5_bookLine_8 19 rfl rfl)
theorem dX5_bookLine_204 : decode cX5_bookLine 204 = .ok (.getfield 33, 3) := dk_180 0 33 (dk_at dksX5_bookLine_8 20 rfl rfl)
theorem dX5_bookLine_207 : decode cX5_bookLine 207 = .ok (.iload_n 2, 1) := dk_28 (dk_at dksX5_bookLine_8 23 rfl rfl)
theorem dX5_bookLine_208 : decode cX5_bookLine 208 = .ok (.ifCond .ne 7, 3) := dk_154 0 7 (dk_at dksX5_bookLine_9 0 rfl rfl)
theorem dX5_bookLine_211 : decode cX5_bookLine 211 = .ok (.iconst 1, 1) := dk_4 (dk_at dksX5_bookLine_9 3 rfl rfl)
theorem dX5_bookLine_212 : decode cX5_bookLine 212 = .ok (.goto 14, 3) := dk_167 0 14 (dk_at dksX5_bookLine_9 4 rfl rfl)
theorem dX5_bookLine_215 : decode cX5_bookLine 215 = .ok (.iload_n 2, 1) := dk_28 (dk_at dksX5_bookLine_9 7 rfl rfl)
theorem dX5_bookLine_216 : decode cX5_bookLine 216 = .ok (.iconst 1, 1) := dk_4 (dk_at dksX5_bookLine_9 8 rfl rfl)
theorem dX5_bookLine_217 : decode cX5_bookLine 217 = .ok (.if_icmp .ne 7, 3) := dk_160 0 7 (dk_at dksX5_bookLine_9 9 rfl rfl)
theorem dX5_bookLine_220 : decode cX5_bookLine 220 = .ok (.iconst 5, 1) := dk_8 (dk_at dksX5_bookLine_9 12 rfl rfl)
theorem dX5_bookLine_221 : decode cX5_bookLine 221 = .ok (.goto 5, 3) := dk_167 0 5 (dk_at dksX5_bookLine_9 13 rfl rfl)
theorem dX5_bookLine_224 : decode cX5_bookLine 224 = .ok (.bipush 6, 2) := dk_16 6 (dk_at dksX5_bookLine_9 16 rfl rfl)
theorem dX5_bookLine_226 : decode cX5_bookLine 226 = .ok (.iaload, 1) := dk_46 (dk_at dksX5_bookLine_9 18 rfl rfl)
theorem dX5_bookLine_227 : decode cX5_bookLine 227 = .ok (.invokevirtual 220, 3) := dk_182 0 220 (dk_at dksX5_bookLine_9 19 rfl rfl)
theorem dX5_bookLine_230 : decode cX5_bookLine 230 = .ok (.ifCond .ne 5, 3) := dk_154 0 5 (dk_at dksX5_bookLine_10 0 rfl rfl)
theorem dX5_bookLine_233 : decode cX5_bookLine 233 = .ok (.iconst 0, 1) := dk_3 (dk_at dksX5_bookLine_10 3 rfl rfl)
theorem dX5_bookLine_234 : decode cX5_bookLine 234 = .ok (.ireturn, 1) := dk_172 (dk_at dksX5_bookLine_10 4 rfl rfl)
theorem dX5_bookLine_235 : decode cX5_bookLine 235 = .ok (.aload_n 0, 1) := dk_42 (dk_at dksX5_bookLine_10 5 rfl rfl)
theorem dX5_bookLine_236 : decode cX5_bookLine 236 = .ok (.getfield 40, 3) := dk_180 0 40 (dk_at dksX5_bookLine_10 6 rfl rfl)
theorem dX5_bookLine_239 : decode cX5_bookLine 239 = .ok (.iload_n 1, 1) := dk_27 (dk_at dksX5_bookLine_10 9 rfl rfl)
theorem dX5_bookLine_240 : decode cX5_bookLine 240 = .ok (.iconst 2, 1) := dk_5 (dk_at dksX5_bookLine_10 10 rfl rfl)
theorem dX5_bookLine_241 : decode cX5_bookLine 241 = .ok (.iadd, 1) := dk_96 (dk_at dksX5_bookLine_10 11 rfl rfl)
theorem dX5_bookLine_242 : decode cX5_bookLine 242 = .ok (.aload_n 0, 1) := dk_42 (dk_at dksX5_bookLine_10 12 rfl rfl)
theorem dX5_bookLine_243 : decode cX5_bookLine 243 = .ok (.getfield 191, 3) := dk_180 0 191 (dk_at dksX5_bookLine_10 13 rfl rfl)
theorem dX5_bookLine_246 : decode cX5_bookLine 246 = .ok (.iastore, 1) := dk_79 (dk_at dksX5_bookLine_10 16 rfl rfl)
theorem dX5_bookLine_247 : decode cX5_bookLine 247 = .ok (.iconst 1, 1) := dk_4 (dk_at dksX5_bookLine_10 17 rfl rfl)
theorem dX5_bookLine_248 : decode cX5_bookLine 248 = .ok (.ireturn, 1) := dk_172 (dk_at dksX5_bookLine_10 18 rfl rfl)
abbrev cX5_lives : ByteArray := prog_26_method_102_code
def yX5_lives : MethodName := ⟨RX5, "lives", "(I)I"⟩
def dkwX5_lives_7 : List UInt8 := [28, 162, 0, 13, 42, 182, 1, 36, 132, 5, 1, 167, 255, 243, 3, 172]
abbrev dktX5_lives_7 : List UInt8 := dkwX5_lives_7 ++ []
def dkwX5_lives_6 : List UInt8 := [16, 106, 46, 28, 96, 16, 20, 42, 180, 0, 33, 3, 46, 104, 164, 0, 5, 6, 172, 3, 54, 5, 21, 5]
abbrev dktX5_lives_6 : List UInt8 := dkwX5_lives_6 ++ dktX5_lives_7
def dkwX5_lives_5 : List UInt8 := [182, 1, 30, 54, 4, 21, 4, 154, 0, 9, 42, 28, 29, 182, 1, 33, 21, 4, 172, 42, 180, 0, 33]
abbrev dktX5_lives_5 : List UInt8 := dkwX5_lives_5 ++ dktX5_lives_6
def dkwX5_lives_4 : List UInt8 := [182, 1, 23, 54, 4, 21, 4, 154, 0, 9, 42, 28, 29, 182, 1, 27, 21, 4, 172, 42, 28, 29]
abbrev dktX5_lives_4 : List UInt8 := dkwX5_lives_4 ++ dktX5_lives_5
def dkwX5_lives_3 : List UInt8 := [42, 28, 29, 182, 1, 10, 54, 4, 21, 4, 154, 0, 9, 42, 28, 29, 182, 1, 16, 21, 4, 172, 42, 28]
abbrev dktX5_lives_3 : List UInt8 := dkwX5_lives_3 ++ dktX5_lives_4
def dkwX5_lives_2 : List UInt8 := [170, 0, 0, 0, 90, 0, 0, 0, 0, 0, 0, 0, 2, 0, 0, 0, 25, 0, 0, 0, 47, 0, 0, 0, 68]
abbrev dktX5_lives_2 : List UInt8 := dkwX5_lives_2 ++ dktX5_lives_3
def dkwX5_lives_1 : List UInt8 := [180, 0, 40, 27, 46]
abbrev dktX5_lives_1 : List UInt8 := dkwX5_lives_1 ++ dktX5_lives_2
def dkwX5_lives_0 : List UInt8 := [42, 180, 0, 40, 27, 4, 96, 46, 61, 42, 180, 0, 40, 27, 5, 96, 46, 62, 3, 54, 4, 42]
abbrev dktX5_lives_0 : List UInt8 := dkwX5_lives_0 ++ dktX5_lives_1
theorem dksX5_lives_0 : cX5_lives.data.toList.drop 0 = dktX5_lives_0 := by decide +kernel
theorem dksX5_lives_1 : cX5_lives.data.toList.drop 22 = dktX5_lives_1 := dk_seg dksX5_lives_0 22 rfl rfl
theorem dksX5_lives_2 : cX5_lives.data.toList.drop 27 = dktX5_lives_2 := dk_seg dksX5_lives_1 5 rfl rfl
theorem dksX5_lives_3 : cX5_lives.data.toList.drop 52 = dktX5_lives_3 := dk_seg dksX5_lives_2 25 rfl rfl
theorem dksX5_lives_4 : cX5_lives.data.toList.drop 76 = dktX5_lives_4 := dk_seg dksX5_lives_3 24 rfl rfl
theorem dksX5_lives_5 : cX5_lives.data.toList.drop 98 = dktX5_lives_5 := dk_seg dksX5_lives_4 22 rfl rfl
theorem dksX5_lives_6 : cX5_lives.data.toList.drop 121 = dktX5_lives_6 := dk_seg dksX5_lives_5 23 rfl rfl
theorem dksX5_lives_7 : cX5_lives.data.toList.drop 145 = dktX5_lives_7 := dk_seg dksX5_lives_6 24 rfl rfl
theorem dX5_lives_0 : decode cX5_lives 0 = .ok (.aload_n 0, 1) := dk_42 (dk_at dksX5_lives_0 0 rfl rfl)
theorem dX5_lives_1 : decode cX5_lives 1 = .ok (.getfield 40, 3) := dk_180 0 40 (dk_at dksX5_lives_0 1 rfl rfl)
theorem dX5_lives_4 : decode cX5_lives 4 = .ok (.iload_n 1, 1) := dk_27 (dk_at dksX5_lives_0 4 rfl rfl)
theorem dX5_lives_5 : decode cX5_lives 5 = .ok (.iconst 1, 1) := dk_4 (dk_at dksX5_lives_0 5 rfl rfl)
theorem dX5_lives_6 : decode cX5_lives 6 = .ok (.iadd, 1) := dk_96 (dk_at dksX5_lives_0 6 rfl rfl)
theorem dX5_lives_7 : decode cX5_lives 7 = .ok (.iaload, 1) := dk_46 (dk_at dksX5_lives_0 7 rfl rfl)
theorem dX5_lives_8 : decode cX5_lives 8 = .ok (.istore_n 2, 1) := dk_61 (dk_at dksX5_lives_0 8 rfl rfl)
theorem dX5_lives_9 : decode cX5_lives 9 = .ok (.aload_n 0, 1) := dk_42 (dk_at dksX5_lives_0 9 rfl rfl)
theorem dX5_lives_10 : decode cX5_lives 10 = .ok (.getfield 40, 3) := dk_180 0 40 (dk_at dksX5_lives_0 10 rfl rfl)
theorem dX5_lives_13 : decode cX5_lives 13 = .ok (.iload_n 1, 1) := dk_27 (dk_at dksX5_lives_0 13 rfl rfl)
theorem dX5_lives_14 : decode cX5_lives 14 = .ok (.iconst 2, 1) := dk_5 (dk_at dksX5_lives_0 14 rfl rfl)
theorem dX5_lives_15 : decode cX5_lives 15 = .ok (.iadd, 1) := dk_96 (dk_at dksX5_lives_0 15 rfl rfl)
theorem dX5_lives_16 : decode cX5_lives 16 = .ok (.iaload, 1) := dk_46 (dk_at dksX5_lives_0 16 rfl rfl)
theorem dX5_lives_17 : decode cX5_lives 17 = .ok (.istore_n 3, 1) := dk_62 (dk_at dksX5_lives_0 17 rfl rfl)
theorem dX5_lives_18 : decode cX5_lives 18 = .ok (.iconst 0, 1) := dk_3 (dk_at dksX5_lives_0 18 rfl rfl)
theorem dX5_lives_19 : decode cX5_lives 19 = .ok (.istore 4, 2) := dk_54 4 (dk_at dksX5_lives_0 19 rfl rfl)
theorem dX5_lives_21 : decode cX5_lives 21 = .ok (.aload_n 0, 1) := dk_42 (dk_at dksX5_lives_0 21 rfl rfl)
theorem dX5_lives_22 : decode cX5_lives 22 = .ok (.getfield 40, 3) := dk_180 0 40 (dk_at dksX5_lives_1 0 rfl rfl)
theorem dX5_lives_25 : decode cX5_lives 25 = .ok (.iload_n 1, 1) := dk_27 (dk_at dksX5_lives_1 3 rfl rfl)
theorem dX5_lives_26 : decode cX5_lives 26 = .ok (.iaload, 1) := dk_46 (dk_at dksX5_lives_1 4 rfl rfl)
theorem dX5_lives_27 : decode cX5_lives 27 = .ok (.tableswitch 90 0 2 #[25, 47, 68], 25) := by decide +kernel
theorem dX5_lives_52 : decode cX5_lives 52 = .ok (.aload_n 0, 1) := dk_42 (dk_at dksX5_lives_3 0 rfl rfl)
theorem dX5_lives_53 : decode cX5_lives 53 = .ok (.iload_n 2, 1) := dk_28 (dk_at dksX5_lives_3 1 rfl rfl)
theorem dX5_lives_54 : decode cX5_lives 54 = .ok (.iload_n 3, 1) := dk_29 (dk_at dksX5_lives_3 2 rfl rfl)
theorem dX5_lives_55 : decode cX5_lives 55 = .ok (.invokevirtual 266, 3) := dk_182 1 10 (dk_at dksX5_lives_3 3 rfl rfl)
theorem dX5_lives_58 : decode cX5_lives 58 = .ok (.istore 4, 2) := dk_54 4 (dk_at dksX5_lives_3 6 rfl rfl)
theorem dX5_lives_60 : decode cX5_lives 60 = .ok (.iload 4, 2) := dk_21 4 (dk_at dksX5_lives_3 8 rfl rfl)
theorem dX5_lives_62 : decode cX5_lives 62 = .ok (.ifCond .ne 9, 3) := dk_154 0 9 (dk_at dksX5_lives_3 10 rfl rfl)
theorem dX5_lives_65 : decode cX5_lives 65 = .ok (.aload_n 0, 1) := dk_42 (dk_at dksX5_lives_3 13 rfl rfl)
theorem dX5_lives_66 : decode cX5_lives 66 = .ok (.iload_n 2, 1) := dk_28 (dk_at dksX5_lives_3 14 rfl rfl)
theorem dX5_lives_67 : decode cX5_lives 67 = .ok (.iload_n 3, 1) := dk_29 (dk_at dksX5_lives_3 15 rfl rfl)
theorem dX5_lives_68 : decode cX5_lives 68 = .ok (.invokevirtual 272, 3) := dk_182 1 16 (dk_at dksX5_lives_3 16 rfl rfl)
theorem dX5_lives_71 : decode cX5_lives 71 = .ok (.iload 4, 2) := dk_21 4 (dk_at dksX5_lives_3 19 rfl rfl)
theorem dX5_lives_73 : decode cX5_lives 73 = .ok (.ireturn, 1) := dk_172 (dk_at dksX5_lives_3 21 rfl rfl)
theorem dX5_lives_74 : decode cX5_lives 74 = .ok (.aload_n 0, 1) := dk_42 (dk_at dksX5_lives_3 22 rfl rfl)
theorem dX5_lives_75 : decode cX5_lives 75 = .ok (.iload_n 2, 1) := dk_28 (dk_at dksX5_lives_3 23 rfl rfl)
theorem dX5_lives_76 : decode cX5_lives 76 = .ok (.invokevirtual 279, 3) := dk_182 1 23 (dk_at dksX5_lives_4 0 rfl rfl)
theorem dX5_lives_79 : decode cX5_lives 79 = .ok (.istore 4, 2) := dk_54 4 (dk_at dksX5_lives_4 3 rfl rfl)
theorem dX5_lives_81 : decode cX5_lives 81 = .ok (.iload 4, 2) := dk_21 4 (dk_at dksX5_lives_4 5 rfl rfl)
theorem dX5_lives_83 : decode cX5_lives 83 = .ok (.ifCond .ne 9, 3) := dk_154 0 9 (dk_at dksX5_lives_4 7 rfl rfl)
theorem dX5_lives_86 : decode cX5_lives 86 = .ok (.aload_n 0, 1) := dk_42 (dk_at dksX5_lives_4 10 rfl rfl)
theorem dX5_lives_87 : decode cX5_lives 87 = .ok (.iload_n 2, 1) := dk_28 (dk_at dksX5_lives_4 11 rfl rfl)
theorem dX5_lives_88 : decode cX5_lives 88 = .ok (.iload_n 3, 1) := dk_29 (dk_at dksX5_lives_4 12 rfl rfl)
theorem dX5_lives_89 : decode cX5_lives 89 = .ok (.invokevirtual 283, 3) := dk_182 1 27 (dk_at dksX5_lives_4 13 rfl rfl)
theorem dX5_lives_92 : decode cX5_lives 92 = .ok (.iload 4, 2) := dk_21 4 (dk_at dksX5_lives_4 16 rfl rfl)
theorem dX5_lives_94 : decode cX5_lives 94 = .ok (.ireturn, 1) := dk_172 (dk_at dksX5_lives_4 18 rfl rfl)
theorem dX5_lives_95 : decode cX5_lives 95 = .ok (.aload_n 0, 1) := dk_42 (dk_at dksX5_lives_4 19 rfl rfl)
theorem dX5_lives_96 : decode cX5_lives 96 = .ok (.iload_n 2, 1) := dk_28 (dk_at dksX5_lives_4 20 rfl rfl)
theorem dX5_lives_97 : decode cX5_lives 97 = .ok (.iload_n 3, 1) := dk_29 (dk_at dksX5_lives_4 21 rfl rfl)
theorem dX5_lives_98 : decode cX5_lives 98 = .ok (.invokevirtual 286, 3) := dk_182 1 30 (dk_at dksX5_lives_5 0 rfl rfl)
theorem dX5_lives_101 : decode cX5_lives 101 = .ok (.istore 4, 2) := dk_54 4 (dk_at dksX5_lives_5 3 rfl rfl)
theorem dX5_lives_103 : decode cX5_lives 103 = .ok (.iload 4, 2) := dk_21 4 (dk_at dksX5_lives_5 5 rfl rfl)
theorem dX5_lives_105 : decode cX5_lives 105 = .ok (.ifCond .ne 9, 3) := dk_154 0 9 (dk_at dksX5_lives_5 7 rfl rfl)
theorem dX5_lives_108 : decode cX5_lives 108 = .ok (.aload_n 0, 1) := dk_42 (dk_at dksX5_lives_5 10 rfl rfl)
theorem dX5_lives_109 : decode cX5_lives 109 = .ok (.iload_n 2, 1) := dk_28 (dk_at dksX5_lives_5 11 rfl rfl)
theorem dX5_lives_110 : decode cX5_lives 110 = .ok (.iload_n 3, 1) := dk_29 (dk_at dksX5_lives_5 12 rfl rfl)
theorem dX5_lives_111 : decode cX5_lives 111 = .ok (.invokevirtual 289, 3) := dk_182 1 33 (dk_at dksX5_lives_5 13 rfl rfl)
theorem dX5_lives_114 : decode cX5_lives 114 = .ok (.iload 4, 2) := dk_21 4 (dk_at dksX5_lives_5 16 rfl rfl)
theorem dX5_lives_116 : decode cX5_lives 116 = .ok (.ireturn, 1) := dk_172 (dk_at dksX5_lives_5 18 rfl rfl)
theorem dX5_lives_117 : decode cX5_lives 117 = .ok (.aload_n 0, 1) := dk_42 (dk_at dksX5_lives_5 19 rfl rfl)
theorem dX5_lives_118 : decode cX5_lives 118 = .ok (.getfield 33, 3) := dk_180 0 33 (dk_at dksX5_lives_5 20 rfl rfl)
theorem dX5_lives_121 : decode cX5_lives 121 = .ok (.bipush 106, 2) := dk_16 106 (dk_at dksX5_lives_6 0 rfl rfl)
theorem dX5_lives_123 : decode cX5_lives 123 = .ok (.iaload, 1) := dk_46 (dk_at dksX5_lives_6 2 rfl rfl)
theorem dX5_lives_124 : decode cX5_lives 124 = .ok (.iload_n 2, 1) := dk_28 (dk_at dksX5_lives_6 3 rfl rfl)
theorem dX5_lives_125 : decode cX5_lives 125 = .ok (.iadd, 1) := dk_96 (dk_at dksX5_lives_6 4 rfl rfl)
theorem dX5_lives_126 : decode cX5_lives 126 = .ok (.bipush 20, 2) := dk_16 20 (dk_at dksX5_lives_6 5 rfl rfl)
theorem dX5_lives_128 : decode cX5_lives 128 = .ok (.aload_n 0, 1) := dk_42 (dk_at dksX5_lives_6 7 rfl rfl)
theorem dX5_lives_129 : decode cX5_lives 129 = .ok (.getfield 33, 3) := dk_180 0 33 (dk_at dksX5_lives_6 8 rfl rfl)
theorem dX5_lives_132 : decode cX5_lives 132 = .ok (.iconst 0, 1) := dk_3 (dk_at dksX5_lives_6 11 rfl rfl)
theorem dX5_lives_133 : decode cX5_lives 133 = .ok (.iaload, 1) := dk_46 (dk_at dksX5_lives_6 12 rfl rfl)
theorem dX5_lives_134 : decode cX5_lives 134 = .ok (.imul, 1) := dk_104 (dk_at dksX5_lives_6 13 rfl rfl)
theorem dX5_lives_135 : decode cX5_lives 135 = .ok (.if_icmp .le 5, 3) := dk_164 0 5 (dk_at dksX5_lives_6 14 rfl rfl)
theorem dX5_lives_138 : decode cX5_lives 138 = .ok (.iconst 3, 1) := dk_6 (dk_at dksX5_lives_6 17 rfl rfl)
theorem dX5_lives_139 : decode cX5_lives 139 = .ok (.ireturn, 1) := dk_172 (dk_at dksX5_lives_6 18 rfl rfl)
theorem dX5_lives_140 : decode cX5_lives 140 = .ok (.iconst 0, 1) := dk_3 (dk_at dksX5_lives_6 19 rfl rfl)
theorem dX5_lives_141 : decode cX5_lives 141 = .ok (.istore 5, 2) := dk_54 5 (dk_at dksX5_lives_6 20 rfl rfl)
theorem dX5_lives_143 : decode cX5_lives 143 = .ok (.iload 5, 2) := dk_21 5 (dk_at dksX5_lives_6 22 rfl rfl)
theorem dX5_lives_145 : decode cX5_lives 145 = .ok (.iload_n 2, 1) := dk_28 (dk_at dksX5_lives_7 0 rfl rfl)
theorem dX5_lives_146 : decode cX5_lives 146 = .ok (.if_icmp .ge 13, 3) := dk_162 0 13 (dk_at dksX5_lives_7 1 rfl rfl)
theorem dX5_lives_149 : decode cX5_lives 149 = .ok (.aload_n 0, 1) := dk_42 (dk_at dksX5_lives_7 4 rfl rfl)
theorem dX5_lives_150 : decode cX5_lives 150 = .ok (.invokevirtual 292, 3) := dk_182 1 36 (dk_at dksX5_lives_7 5 rfl rfl)
theorem dX5_lives_153 : decode cX5_lives 153 = .ok (.iinc 5 1, 3) := dk_132 5 1 (dk_at dksX5_lives_7 8 rfl rfl)
theorem dX5_lives_156 : decode cX5_lives 156 = .ok (.goto (-13), 3) := dk_167 255 243 (dk_at dksX5_lives_7 11 rfl rfl)
theorem dX5_lives_159 : decode cX5_lives 159 = .ok (.iconst 0, 1) := dk_3 (dk_at dksX5_lives_7 14 rfl rfl)
theorem dX5_lives_160 : decode cX5_lives 160 = .ok (.ireturn, 1) := dk_172 (dk_at dksX5_lives_7 15 rfl rfl)
abbrev cX5_booked : ByteArray := prog_26_method_104_code
def yX5_booked : MethodName := ⟨RX5, "booked", "(I)I"⟩
def dkwX5_booked_1 : List UInt8 := [180, 0, 72, 27, 46, 167, 0, 4, 2, 172]
abbrev dktX5_booked_1 : List UInt8 := dkwX5_booked_1 ++ []
def dkwX5_booked_0 : List UInt8 := [42, 3, 181, 0, 1, 42, 180, 1, 154, 153, 0, 21, 27, 3, 6, 184, 0, 187, 153, 0, 12, 42]
abbrev dktX5_booked_0 : List UInt8 := dkwX5_booked_0 ++ dktX5_booked_1
theorem dksX5_booked_0 : cX5_booked.data.toList.drop 0 = dktX5_booked_0 := by decide +kernel
theorem dksX5_booked_1 : cX5_booked.data.toList.drop 22 = dktX5_booked_1 := dk_seg dksX5_booked_0 22 rfl rfl
theorem dX5_booked_0 : decode cX5_booked 0 = .ok (.aload_n 0, 1) := dk_42 (dk_at dksX5_booked_0 0 rfl rfl)
theorem dX5_booked_1 : decode cX5_booked 1 = .ok (.iconst 0, 1) := dk_3 (dk_at dksX5_booked_0 1 rfl rfl)
theorem dX5_booked_2 : decode cX5_booked 2 = .ok (.putfield 1, 3) := dk_181 0 1 (dk_at dksX5_booked_0 2 rfl rfl)
theorem dX5_booked_5 : decode cX5_booked 5 = .ok (.aload_n 0, 1) := dk_42 (dk_at dksX5_booked_0 5 rfl rfl)
theorem dX5_booked_6 : decode cX5_booked 6 = .ok (.getfield 410, 3) := dk_180 1 154 (dk_at dksX5_booked_0 6 rfl rfl)
theorem dX5_booked_9 : decode cX5_booked 9 = .ok (.ifCond .eq 21, 3) := dk_153 0 21 (dk_at dksX5_booked_0 9 rfl rfl)
theorem dX5_booked_12 : decode cX5_booked 12 = .ok (.iload_n 1, 1) := dk_27 (dk_at dksX5_booked_0 12 rfl rfl)
theorem dX5_booked_13 : decode cX5_booked 13 = .ok (.iconst 0, 1) := dk_3 (dk_at dksX5_booked_0 13 rfl rfl)
theorem dX5_booked_14 : decode cX5_booked 14 = .ok (.iconst 3, 1) := dk_6 (dk_at dksX5_booked_0 14 rfl rfl)
theorem dX5_booked_15 : decode cX5_booked 15 = .ok (.invokestatic 187, 3) := dk_184 0 187 (dk_at dksX5_booked_0 15 rfl rfl)
theorem dX5_booked_18 : decode cX5_booked 18 = .ok (.ifCond .eq 12, 3) := dk_153 0 12 (dk_at dksX5_booked_0 18 rfl rfl)
theorem dX5_booked_21 : decode cX5_booked 21 = .ok (.aload_n 0, 1) := dk_42 (dk_at dksX5_booked_0 21 rfl rfl)
theorem dX5_booked_22 : decode cX5_booked 22 = .ok (.getfield 72, 3) := dk_180 0 72 (dk_at dksX5_booked_1 0 rfl rfl)
theorem dX5_booked_25 : decode cX5_booked 25 = .ok (.iload_n 1, 1) := dk_27 (dk_at dksX5_booked_1 3 rfl rfl)
theorem dX5_booked_26 : decode cX5_booked 26 = .ok (.iaload, 1) := dk_46 (dk_at dksX5_booked_1 4 rfl rfl)
theorem dX5_booked_27 : decode cX5_booked 27 = .ok (.goto 4, 3) := dk_167 0 4 (dk_at dksX5_booked_1 5 rfl rfl)
theorem dX5_booked_30 : decode cX5_booked 30 = .ok (.iconst (-1), 1) := dk_2 (dk_at dksX5_booked_1 8 rfl rfl)
theorem dX5_booked_31 : decode cX5_booked 31 = .ok (.ireturn, 1) := dk_172 (dk_at dksX5_booked_1 9 rfl rfl)
abbrev cX5_sentence : ByteArray := prog_26_method_111_code
def yX5_sentence : MethodName := ⟨RX5, "sentence", "()I"⟩
def dkwX5_sentence_7 : List UInt8 := [180, 0, 40, 28, 46, 79, 132, 2, 1, 167, 255, 227, 42, 180, 1, 173, 172]
abbrev dktX5_sentence_7 : List UInt8 := dkwX5_sentence_7 ++ []
def dkwX5_sentence_6 : List UInt8 := [79, 3, 61, 28, 6, 42, 180, 1, 157, 104, 162, 0, 25, 42, 180, 0, 33, 17, 1, 221, 28, 96, 42]
abbrev dktX5_sentence_6 : List UInt8 := dkwX5_sentence_6 ++ dktX5_sentence_7
def dkwX5_sentence_5 : List UInt8 := [182, 1, 188, 154, 255, 182, 2, 42, 180, 0, 175, 100, 172, 42, 180, 0, 33, 17, 1, 220, 42, 180, 1, 157]
abbrev dktX5_sentence_5 : List UInt8 := dkwX5_sentence_5 ++ dktX5_sentence_6
def dkwX5_sentence_4 : List UInt8 := [172, 3, 60, 167, 255, 206, 42, 180, 1, 176, 153, 0, 13, 42, 182, 1, 185, 154, 255, 192, 167, 0, 10, 42]
abbrev dktX5_sentence_4 : List UInt8 := dkwX5_sentence_4 ++ dktX5_sentence_5
def dkwX5_sentence_3 : List UInt8 := [16, 22, 182, 1, 182, 42, 180, 1, 160, 158, 0, 16, 42, 4, 182, 0, 181, 87, 2, 42, 180, 0, 175, 100]
abbrev dktX5_sentence_3 : List UInt8 := dkwX5_sentence_3 ++ dktX5_sentence_4
def dkwX5_sentence_2 : List UInt8 := [27, 153, 0, 83, 42, 180, 1, 176, 153, 0, 45, 42, 180, 0, 155, 154, 0, 38, 42, 182, 1, 179, 42]
abbrev dktX5_sentence_2 : List UInt8 := dkwX5_sentence_2 ++ dktX5_sentence_3
def dkwX5_sentence_1 : List UInt8 := [181, 1, 173, 42, 3, 181, 1, 160, 42, 4, 181, 1, 167, 42, 3, 181, 1, 176, 42, 182, 0, 184, 4, 60]
abbrev dktX5_sentence_1 : List UInt8 := dkwX5_sentence_1 ++ dktX5_sentence_2
def dkwX5_sentence_0 : List UInt8 := [42, 3, 181, 0, 1, 42, 17, 0, 200, 182, 0, 229, 42, 3, 181, 0, 172, 42, 3, 181, 1, 157, 42, 3]
abbrev dktX5_sentence_0 : List UInt8 := dkwX5_sentence_0 ++ dktX5_sentence_1
theorem dksX5_sentence_0 : cX5_sentence.data.toList.drop 0 = dktX5_sentence_0 := by decide +kernel
theorem dksX5_sentence_1 : cX5_sentence.data.toList.drop 24 = dktX5_sentence_1 := dk_seg dksX5_sentence_0 24 rfl rfl
theorem dksX5_sentence_2 : cX5_sentence.data.toList.drop 48 = dktX5_sentence_2 := dk_seg dksX5_sentence_1 24 rfl rfl
theorem dksX5_sentence_3 : cX5_sentence.data.toList.drop 71 = dktX5_sentence_3 := dk_seg dksX5_sentence_2 23 rfl rfl
theorem dksX5_sentence_4 : cX5_sentence.data.toList.drop 95 = dktX5_sentence_4 := dk_seg dksX5_sentence_3 24 rfl rfl
theorem dksX5_sentence_5 : cX5_sentence.data.toList.drop 119 = dktX5_sentence_5 := dk_seg dksX5_sentence_4 24 rfl rfl
theorem dksX5_sentence_6 : cX5_sentence.data.toList.drop 143 = dktX5_sentence_6 := dk_seg dksX5_sentence_5 24 rfl rfl
theorem dksX5_sentence_7 : cX5_sentence.data.toList.drop 166 = dktX5_sentence_7 := dk_seg dksX5_sentence_6 23 rfl rfl
theorem dX5_sentence_0 : decode cX5_sentence 0 = .ok (.aload_n 0, 1) := dk_42 (dk_at dksX5_sentence_0 0 rfl rfl)
theorem dX5_sentence_1 : decode cX5_sentence 1 = .ok (.iconst 0, 1) := dk_3 (dk_at dksX5_sentence_0 1 rfl rfl)
theorem dX5_sentence_2 : decode cX5_sentence 2 = .ok (.putfield 1, 3) := dk_181 0 1 (dk_at dksX5_sentence_0 2 rfl rfl)
theorem dX5_sentence_5 : decode cX5_sentence 5 = .ok (.aload_n 0, 1) := dk_42 (dk_at dksX5_sentence_0 5 rfl rfl)
theorem dX5_sentence_6 : decode cX5_sentence 6 = .ok (.sipush 200, 3) := dk_17 0 200 (dk_at dksX5_sentence_0 6 rfl rfl)
theorem dX5_sentence_9 : decode cX5_sentence 9 = .ok (.invokevirtual 229, 3) := dk_182 0 229 (dk_at dksX5_sentence_0 9 rfl rfl)
theorem dX5_sentence_12 : decode cX5_sentence 12 = .ok (.aload_n 0, 1) := dk_42 (dk_at dksX5_sentence_0 12 rfl rfl)
theorem dX5_sentence_13 : decode cX5_sentence 13 = .ok (.iconst 0, 1) := dk_3 (dk_at dksX5_sentence_0 13 rfl rfl)
theorem dX5_sentence_14 : decode cX5_sentence 14 = .ok (.putfield 172, 3) := dk_181 0 172 (dk_at dksX5_sentence_0 14 rfl rfl)
theorem dX5_sentence_17 : decode cX5_sentence 17 = .ok (.aload_n 0, 1) := dk_42 (dk_at dksX5_sentence_0 17 rfl rfl)
theorem dX5_sentence_18 : decode cX5_sentence 18 = .ok (.iconst 0, 1) := dk_3 (dk_at dksX5_sentence_0 18 rfl rfl)
theorem dX5_sentence_19 : decode cX5_sentence 19 = .ok (.putfield 413, 3) := dk_181 1 157 (dk_at dksX5_sentence_0 19 rfl rfl)
theorem dX5_sentence_22 : decode cX5_sentence 22 = .ok (.aload_n 0, 1) := dk_42 (dk_at dksX5_sentence_0 22 rfl rfl)
theorem dX5_sentence_23 : decode cX5_sentence 23 = .ok (.iconst 0, 1) := dk_3 (dk_at dksX5_sentence_0 23 rfl rfl)
theorem dX5_sentence_24 : decode cX5_sentence 24 = .ok (.putfield 429, 3) := dk_181 1 173 (dk_at dksX5_sentence_1 0 rfl rfl)
theorem dX5_sentence_27 : decode cX5_sentence 27 = .ok (.aload_n 0, 1) := dk_42 (dk_at dksX5_sentence_1 3 rfl rfl)
theorem dX5_sentence_28 : decode cX5_sentence 28 = .ok (.iconst 0, 1) := dk_3 (dk_at dksX5_sentence_1 4 rfl rfl)
theorem dX5_sentence_29 : decode cX5_sentence 29 = .ok (.putfield 416, 3) := dk_181 1 160 (dk_at dksX5_sentence_1 5 rfl rfl)
theorem dX5_sentence_32 : decode cX5_sentence 32 = .ok (.aload_n 0, 1) := dk_42 (dk_at dksX5_sentence_1 8 rfl rfl)
theorem dX5_sentence_33 : decode cX5_sentence 33 = .ok (.iconst 1, 1) := dk_4 (dk_at dksX5_sentence_1 9 rfl rfl)
theorem dX5_sentence_34 : decode cX5_sentence 34 = .ok (.putfield 423, 3) := dk_181 1 167 (dk_at dksX5_sentence_1 10 rfl rfl)
theorem dX5_sentence_37 : decode cX5_sentence 37 = .ok (.aload_n 0, 1) := dk_42 (dk_at dksX5_sentence_1 13 rfl rfl)
theorem dX5_sentence_38 : decode cX5_sentence 38 = .ok (.iconst 0, 1) := dk_3 (dk_at dksX5_sentence_1 14 rfl rfl)
theorem dX5_sentence_39 : decode cX5_sentence 39 = .ok (.putfield 432, 3) := dk_181 1 176 (dk_at dksX5_sentence_1 15 rfl rfl)
theorem dX5_sentence_42 : decode cX5_sentence 42 = .ok (.aload_n 0, 1) := dk_42 (dk_at dksX5_sentence_1 18 rfl rfl)
theorem dX5_sentence_43 : decode cX5_sentence 43 = .ok (.invokevirtual 184, 3) := dk_182 0 184 (dk_at dksX5_sentence_1 19 rfl rfl)
theorem dX5_sentence_46 : decode cX5_sentence 46 = .ok (.iconst 1, 1) := dk_4 (dk_at dksX5_sentence_1 22 rfl rfl)
theorem dX5_sentence_47 : decode cX5_sentence 47 = .ok (.istore_n 1, 1) := dk_60 (dk_at dksX5_sentence_1 23 rfl rfl)
theorem dX5_sentence_48 : decode cX5_sentence 48 = .ok (.iload_n 1, 1) := dk_27 (dk_at dksX5_sentence_2 0 rfl rfl)
theorem dX5_sentence_49 : decode cX5_sentence 49 = .ok (.ifCond .eq 83, 3) := dk_153 0 83 (dk_at dksX5_sentence_2 1 rfl rfl)
theorem dX5_sentence_52 : decode cX5_sentence 52 = .ok (.aload_n 0, 1) := dk_42 (dk_at dksX5_sentence_2 4 rfl rfl)
theorem dX5_sentence_53 : decode cX5_sentence 53 = .ok (.getfield 432, 3) := dk_180 1 176 (dk_at dksX5_sentence_2 5 rfl rfl)
theorem dX5_sentence_56 : decode cX5_sentence 56 = .ok (.ifCond .eq 45, 3) := dk_153 0 45 (dk_at dksX5_sentence_2 8 rfl rfl)
theorem dX5_sentence_59 : decode cX5_sentence 59 = .ok (.aload_n 0, 1) := dk_42 (dk_at dksX5_sentence_2 11 rfl rfl)
theorem dX5_sentence_60 : decode cX5_sentence 60 = .ok (.getfield 155, 3) := dk_180 0 155 (dk_at dksX5_sentence_2 12 rfl rfl)
theorem dX5_sentence_63 : decode cX5_sentence 63 = .ok (.ifCond .ne 38, 3) := dk_154 0 38 (dk_at dksX5_sentence_2 15 rfl rfl)
theorem dX5_sentence_66 : decode cX5_sentence 66 = .ok (.aload_n 0, 1) := dk_42 (dk_at dksX5_sentence_2 18 rfl rfl)
theorem dX5_sentence_67 : decode cX5_sentence 67 = .ok (.invokevirtual 435, 3) := dk_182 1 179 (dk_at dksX5_sentence_2 19 rfl rfl)
theorem dX5_sentence_70 : decode cX5_sentence 70 = .ok (.aload_n 0, 1) := dk_42 (dk_at dksX5_sentence_2 22 rfl rfl)
theorem dX5_sentence_71 : decode cX5_sentence 71 = .ok (.bipush 22, 2) := dk_16 22 (dk_at dksX5_sentence_3 0 rfl rfl)
theorem dX5_sentence_73 : decode cX5_sentence 73 = .ok (.invokevirtual 438, 3) := dk_182 1 182 (dk_at dksX5_sentence_3 2 rfl rfl)
theorem dX5_sentence_76 : decode cX5_sentence 76 = .ok (.aload_n 0, 1) := dk_42 (dk_at dksX5_sentence_3 5 rfl rfl)
theorem dX5_sentence_77 : decode cX5_sentence 77 = .ok (.getfield 416, 3) := dk_180 1 160 (dk_at dksX5_sentence_3 6 rfl rfl)
theorem dX5_sentence_80 : decode cX5_sentence 80 = .ok (.ifCond .le 16, 3) := dk_158 0 16 (dk_at dksX5_sentence_3 9 rfl rfl)
theorem dX5_sentence_83 : decode cX5_sentence 83 = .ok (.aload_n 0, 1) := dk_42 (dk_at dksX5_sentence_3 12 rfl rfl)
theorem dX5_sentence_84 : decode cX5_sentence 84 = .ok (.iconst 1, 1) := dk_4 (dk_at dksX5_sentence_3 13 rfl rfl)
theorem dX5_sentence_85 : decode cX5_sentence 85 = .ok (.invokevirtual 181, 3) := dk_182 0 181 (dk_at dksX5_sentence_3 14 rfl rfl)
theorem dX5_sentence_88 : decode cX5_sentence 88 = .ok (.pop, 1) := dk_87 (dk_at dksX5_sentence_3 17 rfl rfl)
theorem dX5_sentence_89 : decode cX5_sentence 89 = .ok (.iconst (-1), 1) := dk_2 (dk_at dksX5_sentence_3 18 rfl rfl)
theorem dX5_sentence_90 : decode cX5_sentence 90 = .ok (.aload_n 0, 1) := dk_42 (dk_at dksX5_sentence_3 19 rfl rfl)
theorem dX5_sentence_91 : decode cX5_sentence 91 = .ok (.getfield 175, 3) := dk_180 0 175 (dk_at dksX5_sentence_3 20 rfl rfl)
theorem dX5_sentence_94 : decode cX5_sentence 94 = .ok (.isub, 1) := dk_100 (dk_at dksX5_sentence_3 23 rfl rfl)
theorem dX5_sentence_95 : decode cX5_sentence 95 = .ok (.ireturn, 1) := dk_172 (dk_at dksX5_sentence_4 0 rfl rfl)
theorem dX5_sentence_96 : decode cX5_sentence 96 = .ok (.iconst 0, 1) := dk_3 (dk_at dksX5_sentence_4 1 rfl rfl)
theorem dX5_sentence_97 : decode cX5_sentence 97 = .ok (.istore_n 1, 1) := dk_60 (dk_at dksX5_sentence_4 2 rfl rfl)
theorem dX5_sentence_98 : decode cX5_sentence 98 = .ok (.goto (-50), 3) := dk_167 255 206 (dk_at dksX5_sentence_4 3 rfl rfl)
theorem dX5_sentence_101 : decode cX5_sentence 101 = .ok (.aload_n 0, 1) := dk_42 (dk_at dksX5_sentence_4 6 rfl rfl)
theorem dX5_sentence_102 : decode cX5_sentence 102 = .ok (.getfield 432, 3) := dk_180 1 176 (dk_at dksX5_sentence_4 7 rfl rfl)
theorem dX5_sentence_105 : decode cX5_sentence 105 = .ok (.ifCond .eq 13, 3) := dk_153 0 13 (dk_at dksX5_sentence_4 10 rfl rfl)
theorem dX5_sentence_108 : decode cX5_sentence 108 = .ok (.aload_n 0, 1) := dk_42 (dk_at dksX5_sentence_4 13 rfl rfl)
theorem dX5_sentence_109 : decode cX5_sentence 109 = .ok (.invokevirtual 441, 3) := dk_182 1 185 (dk_at dksX5_sentence_4 14 rfl rfl)
theorem dX5_sentence_112 : decode cX5_sentence 112 = .ok (.ifCond .ne (-64), 3) := dk_154 255 192 (dk_at dksX5_sentence_4 17 rfl rfl)
theorem dX5_sentence_115 : decode cX5_sentence 115 = .ok (.goto 10, 3) := dk_167 0 10 (dk_at dksX5_sentence_4 20 rfl rfl)
theorem dX5_sentence_118 : decode cX5_sentence 118 = .ok (.aload_n 0, 1) := dk_42 (dk_at dksX5_sentence_4 23 rfl rfl)
theorem dX5_sentence_119 : decode cX5_sentence 119 = .ok (.invokevirtual 444, 3) := dk_182 1 188 (dk_at dksX5_sentence_5 0 rfl rfl)
theorem dX5_sentence_122 : decode cX5_sentence 122 = .ok (.ifCond .ne (-74), 3) := dk_154 255 182 (dk_at dksX5_sentence_5 3 rfl rfl)
theorem dX5_sentence_125 : decode cX5_sentence 125 = .ok (.iconst (-1), 1) := dk_2 (dk_at dksX5_sentence_5 6 rfl rfl)
theorem dX5_sentence_126 : decode cX5_sentence 126 = .ok (.aload_n 0, 1) := dk_42 (dk_at dksX5_sentence_5 7 rfl rfl)
theorem dX5_sentence_127 : decode cX5_sentence 127 = .ok (.getfield 175, 3) := dk_180 0 175 (dk_at dksX5_sentence_5 8 rfl rfl)
theorem dX5_sentence_130 : decode cX5_sentence 130 = .ok (.isub, 1) := dk_100 (dk_at dksX5_sentence_5 11 rfl rfl)
theorem dX5_sentence_131 : decode cX5_sentence 131 = .ok (.ireturn, 1) := dk_172 (dk_at dksX5_sentence_5 12 rfl rfl)
theorem dX5_sentence_132 : decode cX5_sentence 132 = .ok (.aload_n 0, 1) := dk_42 (dk_at dksX5_sentence_5 13 rfl rfl)
theorem dX5_sentence_133 : decode cX5_sentence 133 = .ok (.getfield 33, 3) := dk_180 0 33 (dk_at dksX5_sentence_5 14 rfl rfl)
theorem dX5_sentence_136 : decode cX5_sentence 136 = .ok (.sipush 476, 3) := dk_17 1 220 (dk_at dksX5_sentence_5 17 rfl rfl)
theorem dX5_sentence_139 : decode cX5_sentence 139 = .ok (.aload_n 0, 1) := dk_42 (dk_at dksX5_sentence_5 20 rfl rfl)
theorem dX5_sentence_140 : decode cX5_sentence 140 = .ok (.getfield 413, 3) := dk_180 1 157 (dk_at dksX5_sentence_5 21 rfl rfl)
theorem dX5_sentence_143 : decode cX5_sentence 143 = .ok (.iastore, 1) := dk_79 (dk_at dksX5_sentence_6 0 rfl rfl)
theorem dX5_sentence_144 : decode cX5_sentence 144 = .ok (.iconst 0, 1) := dk_3 (dk_at dksX5_sentence_6 1 rfl rfl)
theorem dX5_sentence_145 : decode cX5_sentence 145 = .ok (.istore_n 2, 1) := dk_61 (dk_at dksX5_sentence_6 2 rfl rfl)
theorem dX5_sentence_146 : decode cX5_sentence 146 = .ok (.iload_n 2, 1) := dk_28 (dk_at dksX5_sentence_6 3 rfl rfl)
theorem dX5_sentence_147 : decode cX5_sentence 147 = .ok (.iconst 3, 1) := dk_6 (dk_at dksX5_sentence_6 4 rfl rfl)
theorem dX5_sentence_148 : decode cX5_sentence 148 = .ok (.aload_n 0, 1) := dk_42 (dk_at dksX5_sentence_6 5 rfl rfl)
theorem dX5_sentence_149 : decode cX5_sentence 149 = .ok (.getfield 413, 3) := dk_180 1 157 (dk_at dksX5_sentence_6 6 rfl rfl)
theorem dX5_sentence_152 : decode cX5_sentence 152 = .ok (.imul, 1) := dk_104 (dk_at dksX5_sentence_6 9 rfl rfl)
theorem dX5_sentence_153 : decode cX5_sentence 153 = .ok (.if_icmp .ge 25, 3) := dk_162 0 25 (dk_at dksX5_sentence_6 10 rfl rfl)
theorem dX5_sentence_156 : decode cX5_sentence 156 = .ok (.aload_n 0, 1) := dk_42 (dk_at dksX5_sentence_6 13 rfl rfl)
theorem dX5_sentence_157 : decode cX5_sentence 157 = .ok (.getfield 33, 3) := dk_180 0 33 (dk_at dksX5_sentence_6 14 rfl rfl)
theorem dX5_sentence_160 : decode cX5_sentence 160 = .ok (.sipush 477, 3) := dk_17 1 221 (dk_at dksX5_sentence_6 17 rfl rfl)
theorem dX5_sentence_163 : decode cX5_sentence 163 = .ok (.iload_n 2, 1) := dk_28 (dk_at dksX5_sentence_6 20 rfl rfl)
theorem dX5_sentence_164 : decode cX5_sentence 164 = .ok (.iadd, 1) := dk_96 (dk_at dksX5_sentence_6 21 rfl rfl)
theorem dX5_sentence_165 : decode cX5_sentence 165 = .ok (.aload_n 0, 1) := dk_42 (dk_at dksX5_sentence_6 22 rfl rfl)
theorem dX5_sentence_166 : decode cX5_sentence 166 = .ok (.getfield 40, 3) := dk_180 0 40 (dk_at dksX5_sentence_7 0 rfl rfl)
theorem dX5_sentence_169 : decode cX5_sentence 169 = .ok (.iload_n 2, 1) := dk_28 (dk_at dksX5_sentence_7 3 rfl rfl)
theorem dX5_sentence_170 : decode cX5_sentence 170 = .ok (.iaload, 1) := dk_46 (dk_at dksX5_sentence_7 4 rfl rfl)
theorem dX5_sentence_171 : decode cX5_sentence 171 = .ok (.iastore, 1) := dk_79 (dk_at dksX5_sentence_7 5 rfl rfl)
theorem dX5_sentence_172 : decode cX5_sentence 172 = .ok (.iinc 2 1, 3) := dk_132 2 1 (dk_at dksX5_sentence_7 6 rfl rfl)
theorem dX5_sentence_175 : decode cX5_sentence 175 = .ok (.goto (-29), 3) := dk_167 255 227 (dk_at dksX5_sentence_7 9 rfl rfl)
theorem dX5_sentence_178 : decode cX5_sentence 178 = .ok (.aload_n 0, 1) := dk_42 (dk_at dksX5_sentence_7 12 rfl rfl)
theorem dX5_sentence_179 : decode cX5_sentence 179 = .ok (.getfield 429, 3) := dk_180 1 173 (dk_at dksX5_sentence_7 13 rfl rfl)
theorem dX5_sentence_182 : decode cX5_sentence 182 = .ok (.ireturn, 1) := dk_172 (dk_at dksX5_sentence_7 16 rfl rfl)
abbrev cX5_nots : ByteArray := prog_26_method_107_code
def yX5_nots : MethodName := ⟨RX5, "nots", "()V"⟩
def dkwX5_nots_2 : List UInt8 := [182, 1, 163, 167, 255, 205, 177]
abbrev dktX5_nots_2 : List UInt8 := dkwX5_nots_2 ++ []
def dkwX5_nots_1 : List UInt8 := [89, 180, 1, 160, 4, 100, 181, 1, 160, 42, 89, 180, 1, 167, 4, 100, 181, 1, 167, 42, 16, 20, 3, 3]
abbrev dktX5_nots_1 : List UInt8 := dkwX5_nots_1 ++ dktX5_nots_2
def dkwX5_nots_0 : List UInt8 := [42, 180, 1, 160, 158, 0, 50, 42, 180, 0, 75, 42, 180, 1, 160, 4, 100, 46, 16, 20, 160, 0, 34, 42]
abbrev dktX5_nots_0 : List UInt8 := dkwX5_nots_0 ++ dktX5_nots_1
theorem dksX5_nots_0 : cX5_nots.data.toList.drop 0 = dktX5_nots_0 := by decide +kernel
theorem dksX5_nots_1 : cX5_nots.data.toList.drop 24 = dktX5_nots_1 := dk_seg dksX5_nots_0 24 rfl rfl
theorem dksX5_nots_2 : cX5_nots.data.toList.drop 48 = dktX5_nots_2 := dk_seg dksX5_nots_1 24 rfl rfl
theorem dX5_nots_0 : decode cX5_nots 0 = .ok (.aload_n 0, 1) := dk_42 (dk_at dksX5_nots_0 0 rfl rfl)
theorem dX5_nots_1 : decode cX5_nots 1 = .ok (.getfield 416, 3) := dk_180 1 160 (dk_at dksX5_nots_0 1 rfl rfl)
theorem dX5_nots_4 : decode cX5_nots 4 = .ok (.ifCond .le 50, 3) := dk_158 0 50 (dk_at dksX5_nots_0 4 rfl rfl)
theorem dX5_nots_7 : decode cX5_nots 7 = .ok (.aload_n 0, 1) := dk_42 (dk_at dksX5_nots_0 7 rfl rfl)
theorem dX5_nots_8 : decode cX5_nots 8 = .ok (.getfield 75, 3) := dk_180 0 75 (dk_at dksX5_nots_0 8 rfl rfl)
theorem dX5_nots_11 : decode cX5_nots 11 = .ok (.aload_n 0, 1) := dk_42 (dk_at dksX5_nots_0 11 rfl rfl)
theorem dX5_nots_12 : decode cX5_nots 12 = .ok (.getfield 416, 3) := dk_180 1 160 (dk_at dksX5_nots_0 12 rfl rfl)
theorem dX5_nots_15 : decode cX5_nots 15 = .ok (.iconst 1, 1) := dk_4 (dk_at dksX5_nots_0 15 rfl rfl)
theorem dX5_nots_16 : decode cX5_nots 16 = .ok (.isub, 1) := dk_100 (dk_at dksX5_nots_0 16 rfl rfl)
theorem dX5_nots_17 : decode cX5_nots 17 = .ok (.iaload, 1) := dk_46 (dk_at dksX5_nots_0 17 rfl rfl)
theorem dX5_nots_18 : decode cX5_nots 18 = .ok (.bipush 20, 2) := dk_16 20 (dk_at dksX5_nots_0 18 rfl rfl)
theorem dX5_nots_20 : decode cX5_nots 20 = .ok (.if_icmp .ne 34, 3) := dk_160 0 34 (dk_at dksX5_nots_0 20 rfl rfl)
theorem dX5_nots_23 : decode cX5_nots 23 = .ok (.aload_n 0, 1) := dk_42 (dk_at dksX5_nots_0 23 rfl rfl)
theorem dX5_nots_24 : decode cX5_nots 24 = .ok (.dup, 1) := dk_89 (dk_at dksX5_nots_1 0 rfl rfl)
theorem dX5_nots_25 : decode cX5_nots 25 = .ok (.getfield 416, 3) := dk_180 1 160 (dk_at dksX5_nots_1 1 rfl rfl)
theorem dX5_nots_28 : decode cX5_nots 28 = .ok (.iconst 1, 1) := dk_4 (dk_at dksX5_nots_1 4 rfl rfl)
theorem dX5_nots_29 : decode cX5_nots 29 = .ok (.isub, 1) := dk_100 (dk_at dksX5_nots_1 5 rfl rfl)
theorem dX5_nots_30 : decode cX5_nots 30 = .ok (.putfield 416, 3) := dk_181 1 160 (dk_at dksX5_nots_1 6 rfl rfl)
theorem dX5_nots_33 : decode cX5_nots 33 = .ok (.aload_n 0, 1) := dk_42 (dk_at dksX5_nots_1 9 rfl rfl)
theorem dX5_nots_34 : decode cX5_nots 34 = .ok (.dup, 1) := dk_89 (dk_at dksX5_nots_1 10 rfl rfl)
theorem dX5_nots_35 : decode cX5_nots 35 = .ok (.getfield 423, 3) := dk_180 1 167 (dk_at dksX5_nots_1 11 rfl rfl)
theorem dX5_nots_38 : decode cX5_nots 38 = .ok (.iconst 1, 1) := dk_4 (dk_at dksX5_nots_1 14 rfl rfl)
theorem dX5_nots_39 : decode cX5_nots 39 = .ok (.isub, 1) := dk_100 (dk_at dksX5_nots_1 15 rfl rfl)
theorem dX5_nots_40 : decode cX5_nots 40 = .ok (.putfield 423, 3) := dk_181 1 167 (dk_at dksX5_nots_1 16 rfl rfl)
theorem dX5_nots_43 : decode cX5_nots 43 = .ok (.aload_n 0, 1) := dk_42 (dk_at dksX5_nots_1 19 rfl rfl)
theorem dX5_nots_44 : decode cX5_nots 44 = .ok (.bipush 20, 2) := dk_16 20 (dk_at dksX5_nots_1 20 rfl rfl)
theorem dX5_nots_46 : decode cX5_nots 46 = .ok (.iconst 0, 1) := dk_3 (dk_at dksX5_nots_1 22 rfl rfl)
theorem dX5_nots_47 : decode cX5_nots 47 = .ok (.iconst 0, 1) := dk_3 (dk_at dksX5_nots_1 23 rfl rfl)
theorem dX5_nots_48 : decode cX5_nots 48 = .ok (.invokevirtual 419, 3) := dk_182 1 163 (dk_at dksX5_nots_2 0 rfl rfl)
theorem dX5_nots_51 : decode cX5_nots 51 = .ok (.goto (-51), 3) := dk_167 255 205 (dk_at dksX5_nots_2 3 rfl rfl)
theorem dX5_nots_54 : decode cX5_nots 54 = .ok (.return_, 1) := dk_177 (dk_at dksX5_nots_2 6 rfl rfl)
abbrev cX5_code : ByteArray := prog_26_method_105_code
def yX5_code : MethodName := ⟨RX5, "code", "(III)V"⟩
def dkwX5_code_2 : List UInt8 := [181, 1, 157, 177]
abbrev dktX5_code_2 : List UInt8 := dkwX5_code_2 ++ []
def dkwX5_code_1 : List UInt8 := [28, 79, 42, 180, 0, 40, 6, 42, 180, 1, 157, 104, 5, 96, 29, 79, 42, 89, 180, 1, 157, 4, 96]
abbrev dktX5_code_1 : List UInt8 := dkwX5_code_1 ++ dktX5_code_2
def dkwX5_code_0 : List UInt8 := [42, 180, 0, 40, 6, 42, 180, 1, 157, 104, 27, 79, 42, 180, 0, 40, 6, 42, 180, 1, 157, 104, 4, 96]
abbrev dktX5_code_0 : List UInt8 := dkwX5_code_0 ++ dktX5_code_1
theorem dksX5_code_0 : cX5_code.data.toList.drop 0 = dktX5_code_0 := by decide +kernel
theorem dksX5_code_1 : cX5_code.data.toList.drop 24 = dktX5_code_1 := dk_seg dksX5_code_0 24 rfl rfl
theorem dksX5_code_2 : cX5_code.data.toList.drop 47 = dktX5_code_2 := dk_seg dksX5_code_1 23 rfl rfl
theorem dX5_code_0 : decode cX5_code 0 = .ok (.aload_n 0, 1) := dk_42 (dk_at dksX5_code_0 0 rfl rfl)
theorem dX5_code_1 : decode cX5_code 1 = .ok (.getfield 40, 3) := dk_180 0 40 (dk_at dksX5_code_0 1 rfl rfl)
theorem dX5_code_4 : decode cX5_code 4 = .ok (.iconst 3, 1) := dk_6 (dk_at dksX5_code_0 4 rfl rfl)
theorem dX5_code_5 : decode cX5_code 5 = .ok (.aload_n 0, 1) := dk_42 (dk_at dksX5_code_0 5 rfl rfl)
theorem dX5_code_6 : decode cX5_code 6 = .ok (.getfield 413, 3) := dk_180 1 157 (dk_at dksX5_code_0 6 rfl rfl)
theorem dX5_code_9 : decode cX5_code 9 = .ok (.imul, 1) := dk_104 (dk_at dksX5_code_0 9 rfl rfl)
theorem dX5_code_10 : decode cX5_code 10 = .ok (.iload_n 1, 1) := dk_27 (dk_at dksX5_code_0 10 rfl rfl)
theorem dX5_code_11 : decode cX5_code 11 = .ok (.iastore, 1) := dk_79 (dk_at dksX5_code_0 11 rfl rfl)
theorem dX5_code_12 : decode cX5_code 12 = .ok (.aload_n 0, 1) := dk_42 (dk_at dksX5_code_0 12 rfl rfl)
theorem dX5_code_13 : decode cX5_code 13 = .ok (.getfield 40, 3) := dk_180 0 40 (dk_at dksX5_code_0 13 rfl rfl)
theorem dX5_code_16 : decode cX5_code 16 = .ok (.iconst 3, 1) := dk_6 (dk_at dksX5_code_0 16 rfl rfl)
theorem dX5_code_17 : decode cX5_code 17 = .ok (.aload_n 0, 1) := dk_42 (dk_at dksX5_code_0 17 rfl rfl)
theorem dX5_code_18 : decode cX5_code 18 = .ok (.getfield 413, 3) := dk_180 1 157 (dk_at dksX5_code_0 18 rfl rfl)
theorem dX5_code_21 : decode cX5_code 21 = .ok (.imul, 1) := dk_104 (dk_at dksX5_code_0 21 rfl rfl)
theorem dX5_code_22 : decode cX5_code 22 = .ok (.iconst 1, 1) := dk_4 (dk_at dksX5_code_0 22 rfl rfl)
theorem dX5_code_23 : decode cX5_code 23 = .ok (.iadd, 1) := dk_96 (dk_at dksX5_code_0 23 rfl rfl)
theorem dX5_code_24 : decode cX5_code 24 = .ok (.iload_n 2, 1) := dk_28 (dk_at dksX5_code_1 0 rfl rfl)
theorem dX5_code_25 : decode cX5_code 25 = .ok (.iastore, 1) := dk_79 (dk_at dksX5_code_1 1 rfl rfl)
theorem dX5_code_26 : decode cX5_code 26 = .ok (.aload_n 0, 1) := dk_42 (dk_at dksX5_code_1 2 rfl rfl)
theorem dX5_code_27 : decode cX5_code 27 = .ok (.getfield 40, 3) := dk_180 0 40 (dk_at dksX5_code_1 3 rfl rfl)
theorem dX5_code_30 : decode cX5_code 30 = .ok (.iconst 3, 1) := dk_6 (dk_at dksX5_code_1 6 rfl rfl)
theorem dX5_code_31 : decode cX5_code 31 = .ok (.aload_n 0, 1) := dk_42 (dk_at dksX5_code_1 7 rfl rfl)
theorem dX5_code_32 : decode cX5_code 32 = .ok (.getfield 413, 3) := dk_180 1 157 (dk_at dksX5_code_1 8 rfl rfl)
theorem dX5_code_35 : decode cX5_code 35 = .ok (.imul, 1) := dk_104 (dk_at dksX5_code_1 11 rfl rfl)
theorem dX5_code_36 : decode cX5_code 36 = .ok (.iconst 2, 1) := dk_5 (dk_at dksX5_code_1 12 rfl rfl)
theorem dX5_code_37 : decode cX5_code 37 = .ok (.iadd, 1) := dk_96 (dk_at dksX5_code_1 13 rfl rfl)
theorem dX5_code_38 : decode cX5_code 38 = .ok (.iload_n 3, 1) := dk_29 (dk_at dksX5_code_1 14 rfl rfl)
theorem dX5_code_39 : decode cX5_code 39 = .ok (.iastore, 1) := dk_79 (dk_at dksX5_code_1 15 rfl rfl)
theorem dX5_code_40 : decode cX5_code 40 = .ok (.aload_n 0, 1) := dk_42 (dk_at dksX5_code_1 16 rfl rfl)
theorem dX5_code_41 : decode cX5_code 41 = .ok (.dup, 1) := dk_89 (dk_at dksX5_code_1 17 rfl rfl)
theorem dX5_code_42 : decode cX5_code 42 = .ok (.getfield 413, 3) := dk_180 1 157 (dk_at dksX5_code_1 18 rfl rfl)
theorem dX5_code_45 : decode cX5_code 45 = .ok (.iconst 1, 1) := dk_4 (dk_at dksX5_code_1 21 rfl rfl)
theorem dX5_code_46 : decode cX5_code 46 = .ok (.iadd, 1) := dk_96 (dk_at dksX5_code_1 22 rfl rfl)
theorem dX5_code_47 : decode cX5_code 47 = .ok (.putfield 413, 3) := dk_181 1 157 (dk_at dksX5_code_2 0 rfl rfl)
theorem dX5_code_50 : decode cX5_code 50 = .ok (.return_, 1) := dk_177 (dk_at dksX5_code_2 3 rfl rfl)
abbrev cX5_joins : ByteArray := prog_26_method_106_code
def yX5_joins : MethodName := ⟨RX5, "joins", "(I)V"⟩
def dkwX5_joins_3 : List UInt8 := [167, 255, 186, 177]
abbrev dktX5_joins_3 : List UInt8 := dkwX5_joins_3 ++ []
def dkwX5_joins_2 : List UInt8 := [180, 1, 160, 4, 100, 181, 1, 160, 42, 42, 180, 0, 75, 42, 180, 1, 160, 46, 3, 3, 182, 1, 163]
abbrev dktX5_joins_2 : List UInt8 := dkwX5_joins_2 ++ dktX5_joins_3
def dkwX5_joins_1 : List UInt8 := [180, 0, 75, 42, 180, 1, 160, 4, 100, 46, 16, 22, 160, 0, 37, 27, 16, 22, 160, 0, 31, 42, 89]
abbrev dktX5_joins_1 : List UInt8 := dkwX5_joins_1 ++ dktX5_joins_2
def dkwX5_joins_0 : List UInt8 := [42, 180, 1, 160, 158, 0, 69, 42, 180, 0, 75, 42, 180, 1, 160, 4, 100, 46, 16, 21, 159, 0, 25, 42]
abbrev dktX5_joins_0 : List UInt8 := dkwX5_joins_0 ++ dktX5_joins_1
theorem dksX5_joins_0 : cX5_joins.data.toList.drop 0 = dktX5_joins_0 := by decide +kernel
theorem dksX5_joins_1 : cX5_joins.data.toList.drop 24 = dktX5_joins_1 := dk_seg dksX5_joins_0 24 rfl rfl
theorem dksX5_joins_2 : cX5_joins.data.toList.drop 47 = dktX5_joins_2 := dk_seg dksX5_joins_1 23 rfl rfl
theorem dksX5_joins_3 : cX5_joins.data.toList.drop 70 = dktX5_joins_3 := dk_seg dksX5_joins_2 23 rfl rfl
theorem dX5_joins_0 : decode cX5_joins 0 = .ok (.aload_n 0, 1) := dk_42 (dk_at dksX5_joins_0 0 rfl rfl)
theorem dX5_joins_1 : decode cX5_joins 1 = .ok (.getfield 416, 3) := dk_180 1 160 (dk_at dksX5_joins_0 1 rfl rfl)
theorem dX5_joins_4 : decode cX5_joins 4 = .ok (.ifCond .le 69, 3) := dk_158 0 69 (dk_at dksX5_joins_0 4 rfl rfl)
theorem dX5_joins_7 : decode cX5_joins 7 = .ok (.aload_n 0, 1) := dk_42 (dk_at dksX5_joins_0 7 rfl rfl)
theorem dX5_joins_8 : decode cX5_joins 8 = .ok (.getfield 75, 3) := dk_180 0 75 (dk_at dksX5_joins_0 8 rfl rfl)
theorem dX5_joins_11 : decode cX5_joins 11 = .ok (.aload_n 0, 1) := dk_42 (dk_at dksX5_joins_0 11 rfl rfl)
theorem dX5_joins_12 : decode cX5_joins 12 = .ok (.getfield 416, 3) := dk_180 1 160 (dk_at dksX5_joins_0 12 rfl rfl)
theorem dX5_joins_15 : decode cX5_joins 15 = .ok (.iconst 1, 1) := dk_4 (dk_at dksX5_joins_0 15 rfl rfl)
theorem dX5_joins_16 : decode cX5_joins 16 = .ok (.isub, 1) := dk_100 (dk_at dksX5_joins_0 16 rfl rfl)
theorem dX5_joins_17 : decode cX5_joins 17 = .ok (.iaload, 1) := dk_46 (dk_at dksX5_joins_0 17 rfl rfl)
theorem dX5_joins_18 : decode cX5_joins 18 = .ok (.bipush 21, 2) := dk_16 21 (dk_at dksX5_joins_0 18 rfl rfl)
theorem dX5_joins_20 : decode cX5_joins 20 = .ok (.if_icmp .eq 25, 3) := dk_159 0 25 (dk_at dksX5_joins_0 20 rfl rfl)
theorem dX5_joins_23 : decode cX5_joins 23 = .ok (.aload_n 0, 1) := dk_42 (dk_at dksX5_joins_0 23 rfl rfl)
theorem dX5_joins_24 : decode cX5_joins 24 = .ok (.getfield 75, 3) := dk_180 0 75 (dk_at dksX5_joins_1 0 rfl rfl)
theorem dX5_joins_27 : decode cX5_joins 27 = .ok (.aload_n 0, 1) := dk_42 (dk_at dksX5_joins_1 3 rfl rfl)
theorem dX5_joins_28 : decode cX5_joins 28 = .ok (.getfield 416, 3) := dk_180 1 160 (dk_at dksX5_joins_1 4 rfl rfl)
theorem dX5_joins_31 : decode cX5_joins 31 = .ok (.iconst 1, 1) := dk_4 (dk_at dksX5_joins_1 7 rfl rfl)
theorem dX5_joins_32 : decode cX5_joins 32 = .ok (.isub, 1) := dk_100 (dk_at dksX5_joins_1 8 rfl rfl)
theorem dX5_joins_33 : decode cX5_joins 33 = .ok (.iaload, 1) := dk_46 (dk_at dksX5_joins_1 9 rfl rfl)
theorem dX5_joins_34 : decode cX5_joins 34 = .ok (.bipush 22, 2) := dk_16 22 (dk_at dksX5_joins_1 10 rfl rfl)
theorem dX5_joins_36 : decode cX5_joins 36 = .ok (.if_icmp .ne 37, 3) := dk_160 0 37 (dk_at dksX5_joins_1 12 rfl rfl)
theorem dX5_joins_39 : decode cX5_joins 39 = .ok (.iload_n 1, 1) := dk_27 (dk_at dksX5_joins_1 15 rfl rfl)
theorem dX5_joins_40 : decode cX5_joins 40 = .ok (.bipush 22, 2) := dk_16 22 (dk_at dksX5_joins_1 16 rfl rfl)
theorem dX5_joins_42 : decode cX5_joins 42 = .ok (.if_icmp .ne 31, 3) := dk_160 0 31 (dk_at dksX5_joins_1 18 rfl rfl)
theorem dX5_joins_45 : decode cX5_joins 45 = .ok (.aload_n 0, 1) := dk_42 (dk_at dksX5_joins_1 21 rfl rfl)
theorem dX5_joins_46 : decode cX5_joins 46 = .ok (.dup, 1) := dk_89 (dk_at dksX5_joins_1 22 rfl rfl)
theorem dX5_joins_47 : decode cX5_joins 47 = .ok (.getfield 416, 3) := dk_180 1 160 (dk_at dksX5_joins_2 0 rfl rfl)
theorem dX5_joins_50 : decode cX5_joins 50 = .ok (.iconst 1, 1) := dk_4 (dk_at dksX5_joins_2 3 rfl rfl)
theorem dX5_joins_51 : decode cX5_joins 51 = .ok (.isub, 1) := dk_100 (dk_at dksX5_joins_2 4 rfl rfl)
theorem dX5_joins_52 : decode cX5_joins 52 = .ok (.putfield 416, 3) := dk_181 1 160 (dk_at dksX5_joins_2 5 rfl rfl)
theorem dX5_joins_55 : decode cX5_joins 55 = .ok (.aload_n 0, 1) := dk_42 (dk_at dksX5_joins_2 8 rfl rfl)
theorem dX5_joins_56 : decode cX5_joins 56 = .ok (.aload_n 0, 1) := dk_42 (dk_at dksX5_joins_2 9 rfl rfl)
theorem dX5_joins_57 : decode cX5_joins 57 = .ok (.getfield 75, 3) := dk_180 0 75 (dk_at dksX5_joins_2 10 rfl rfl)
theorem dX5_joins_60 : decode cX5_joins 60 = .ok (.aload_n 0, 1) := dk_42 (dk_at dksX5_joins_2 13 rfl rfl)
theorem dX5_joins_61 : decode cX5_joins 61 = .ok (.getfield 416, 3) := dk_180 1 160 (dk_at dksX5_joins_2 14 rfl rfl)
theorem dX5_joins_64 : decode cX5_joins 64 = .ok (.iaload, 1) := dk_46 (dk_at dksX5_joins_2 17 rfl rfl)
theorem dX5_joins_65 : decode cX5_joins 65 = .ok (.iconst 0, 1) := dk_3 (dk_at dksX5_joins_2 18 rfl rfl)
theorem dX5_joins_66 : decode cX5_joins 66 = .ok (.iconst 0, 1) := dk_3 (dk_at dksX5_joins_2 19 rfl rfl)
theorem dX5_joins_67 : decode cX5_joins 67 = .ok (.invokevirtual 419, 3) := dk_182 1 163 (dk_at dksX5_joins_2 20 rfl rfl)
theorem dX5_joins_70 : decode cX5_joins 70 = .ok (.goto (-70), 3) := dk_167 255 186 (dk_at dksX5_joins_3 0 rfl rfl)
theorem dX5_joins_73 : decode cX5_joins 73 = .ok (.return_, 1) := dk_177 (dk_at dksX5_joins_3 3 rfl rfl)
abbrev cX5_behind : ByteArray := prog_26_method_110_code
def yX5_behind : MethodName := ⟨RX5, "behind", "()Z"⟩
def dkwX5_behind_6 : List UInt8 := [42, 182, 0, 184, 4, 172]
abbrev dktX5_behind_6 : List UInt8 := dkwX5_behind_6 ++ []
def dkwX5_behind_5 : List UInt8 := [182, 0, 181, 172, 42, 89, 180, 1, 160, 4, 100, 181, 1, 160, 42, 89, 180, 1, 167, 4, 100, 181, 1, 167]
abbrev dktX5_behind_5 : List UInt8 := dkwX5_behind_5 ++ dktX5_behind_6
def dkwX5_behind_4 : List UInt8 := [16, 22, 182, 1, 182, 42, 16, 41, 182, 0, 178, 153, 0, 10, 42, 180, 1, 160, 154, 0, 9, 42, 4]
abbrev dktX5_behind_4 : List UInt8 := dkwX5_behind_4 ++ dktX5_behind_5
def dkwX5_behind_3 : List UInt8 := [79, 42, 89, 180, 1, 160, 4, 96, 181, 1, 160, 42, 3, 181, 1, 176, 42, 182, 0, 184, 4, 172, 42]
abbrev dktX5_behind_3 : List UInt8 := dkwX5_behind_3 ++ dktX5_behind_4
def dkwX5_behind_2 : List UInt8 := [180, 0, 75, 42, 180, 1, 160, 42, 20, 0, 121, 182, 0, 206, 153, 0, 8, 16, 21, 167, 0, 5, 16, 22]
abbrev dktX5_behind_2 : List UInt8 := dkwX5_behind_2 ++ dktX5_behind_3
def dkwX5_behind_1 : List UInt8 := [42, 42, 20, 0, 121, 182, 0, 206, 153, 0, 8, 16, 21, 167, 0, 5, 16, 22, 182, 1, 182, 42]
abbrev dktX5_behind_1 : List UInt8 := dkwX5_behind_1 ++ dktX5_behind_2
def dkwX5_behind_0 : List UInt8 := [42, 182, 1, 179, 42, 20, 0, 121, 182, 0, 206, 154, 0, 13, 42, 20, 0, 119, 182, 0, 206, 153, 0, 71]
abbrev dktX5_behind_0 : List UInt8 := dkwX5_behind_0 ++ dktX5_behind_1
theorem dksX5_behind_0 : cX5_behind.data.toList.drop 0 = dktX5_behind_0 := by decide +kernel
theorem dksX5_behind_1 : cX5_behind.data.toList.drop 24 = dktX5_behind_1 := dk_seg dksX5_behind_0 24 rfl rfl
theorem dksX5_behind_2 : cX5_behind.data.toList.drop 46 = dktX5_behind_2 := dk_seg dksX5_behind_1 22 rfl rfl
theorem dksX5_behind_3 : cX5_behind.data.toList.drop 70 = dktX5_behind_3 := dk_seg dksX5_behind_2 24 rfl rfl
theorem dksX5_behind_4 : cX5_behind.data.toList.drop 93 = dktX5_behind_4 := dk_seg dksX5_behind_3 23 rfl rfl
theorem dksX5_behind_5 : cX5_behind.data.toList.drop 116 = dktX5_behind_5 := dk_seg dksX5_behind_4 23 rfl rfl
theorem dksX5_behind_6 : cX5_behind.data.toList.drop 140 = dktX5_behind_6 := dk_seg dksX5_behind_5 24 rfl rfl
theorem dX5_behind_0 : decode cX5_behind 0 = .ok (.aload_n 0, 1) := dk_42 (dk_at dksX5_behind_0 0 rfl rfl)
theorem dX5_behind_1 : decode cX5_behind 1 = .ok (.invokevirtual 435, 3) := dk_182 1 179 (dk_at dksX5_behind_0 1 rfl rfl)
theorem dX5_behind_4 : decode cX5_behind 4 = .ok (.aload_n 0, 1) := dk_42 (dk_at dksX5_behind_0 4 rfl rfl)
theorem dX5_behind_5 : decode cX5_behind 5 = .ok (.ldc2_w 121, 3) := dk_20 0 121 (dk_at dksX5_behind_0 5 rfl rfl)
theorem dX5_behind_8 : decode cX5_behind 8 = .ok (.invokevirtual 206, 3) := dk_182 0 206 (dk_at dksX5_behind_0 8 rfl rfl)
theorem dX5_behind_11 : decode cX5_behind 11 = .ok (.ifCond .ne 13, 3) := dk_154 0 13 (dk_at dksX5_behind_0 11 rfl rfl)
theorem dX5_behind_14 : decode cX5_behind 14 = .ok (.aload_n 0, 1) := dk_42 (dk_at dksX5_behind_0 14 rfl rfl)
theorem dX5_behind_15 : decode cX5_behind 15 = .ok (.ldc2_w 119, 3) := dk_20 0 119 (dk_at dksX5_behind_0 15 rfl rfl)
theorem dX5_behind_18 : decode cX5_behind 18 = .ok (.invokevirtual 206, 3) := dk_182 0 206 (dk_at dksX5_behind_0 18 rfl rfl)
theorem dX5_behind_21 : decode cX5_behind 21 = .ok (.ifCond .eq 71, 3) := dk_153 0 71 (dk_at dksX5_behind_0 21 rfl rfl)
theorem dX5_behind_24 : decode cX5_behind 24 = .ok (.aload_n 0, 1) := dk_42 (dk_at dksX5_behind_1 0 rfl rfl)
theorem dX5_behind_25 : decode cX5_behind 25 = .ok (.aload_n 0, 1) := dk_42 (dk_at dksX5_behind_1 1 rfl rfl)
theorem dX5_behind_26 : decode cX5_behind 26 = .ok (.ldc2_w 121, 3) := dk_20 0 121 (dk_at dksX5_behind_1 2 rfl rfl)
theorem dX5_behind_29 : decode cX5_behind 29 = .ok (.invokevirtual 206, 3) := dk_182 0 206 (dk_at dksX5_behind_1 5 rfl rfl)
theorem dX5_behind_32 : decode cX5_behind 32 = .ok (.ifCond .eq 8, 3) := dk_153 0 8 (dk_at dksX5_behind_1 8 rfl rfl)
theorem dX5_behind_35 : decode cX5_behind 35 = .ok (.bipush 21, 2) := dk_16 21 (dk_at dksX5_behind_1 11 rfl rfl)
theorem dX5_behind_37 : decode cX5_behind 37 = .ok (.goto 5, 3) := dk_167 0 5 (dk_at dksX5_behind_1 13 rfl rfl)
theorem dX5_behind_40 : decode cX5_behind 40 = .ok (.bipush 22, 2) := dk_16 22 (dk_at dksX5_behind_1 16 rfl rfl)
theorem dX5_behind_42 : decode cX5_behind 42 = .ok (.invokevirtual 438, 3) := dk_182 1 182 (dk_at dksX5_behind_1 18 rfl rfl)
theorem dX5_behind_45 : decode cX5_behind 45 = .ok (.aload_n 0, 1) := dk_42 (dk_at dksX5_behind_1 21 rfl rfl)
theorem dX5_behind_46 : decode cX5_behind 46 = .ok (.getfield 75, 3) := dk_180 0 75 (dk_at dksX5_behind_2 0 rfl rfl)
theorem dX5_behind_49 : decode cX5_behind 49 = .ok (.aload_n 0, 1) := dk_42 (dk_at dksX5_behind_2 3 rfl rfl)
theorem dX5_behind_50 : decode cX5_behind 50 = .ok (.getfield 416, 3) := dk_180 1 160 (dk_at dksX5_behind_2 4 rfl rfl)
theorem dX5_behind_53 : decode cX5_behind 53 = .ok (.aload_n 0, 1) := dk_42 (dk_at dksX5_behind_2 7 rfl rfl)
theorem dX5_behind_54 : decode cX5_behind 54 = .ok (.ldc2_w 121, 3) := dk_20 0 121 (dk_at dksX5_behind_2 8 rfl rfl)
theorem dX5_behind_57 : decode cX5_behind 57 = .ok (.invokevirtual 206, 3) := dk_182 0 206 (dk_at dksX5_behind_2 11 rfl rfl)
theorem dX5_behind_60 : decode cX5_behind 60 = .ok (.ifCond .eq 8, 3) := dk_153 0 8 (dk_at dksX5_behind_2 14 rfl rfl)
theorem dX5_behind_63 : decode cX5_behind 63 = .ok (.bipush 21, 2) := dk_16 21 (dk_at dksX5_behind_2 17 rfl rfl)
theorem dX5_behind_65 : decode cX5_behind 65 = .ok (.goto 5, 3) := dk_167 0 5 (dk_at dksX5_behind_2 19 rfl rfl)
theorem dX5_behind_68 : decode cX5_behind 68 = .ok (.bipush 22, 2) := dk_16 22 (dk_at dksX5_behind_2 22 rfl rfl)
theorem dX5_behind_70 : decode cX5_behind 70 = .ok (.iastore, 1) := dk_79 (dk_at dksX5_behind_3 0 rfl rfl)
theorem dX5_behind_71 : decode cX5_behind 71 = .ok (.aload_n 0, 1) := dk_42 (dk_at dksX5_behind_3 1 rfl rfl)
theorem dX5_behind_72 : decode cX5_behind 72 = .ok (.dup, 1) := dk_89 (dk_at dksX5_behind_3 2 rfl rfl)
theorem dX5_behind_73 : decode cX5_behind 73 = .ok (.getfield 416, 3) := dk_180 1 160 (dk_at dksX5_behind_3 3 rfl rfl)
theorem dX5_behind_76 : decode cX5_behind 76 = .ok (.iconst 1, 1) := dk_4 (dk_at dksX5_behind_3 6 rfl rfl)
theorem dX5_behind_77 : decode cX5_behind 77 = .ok (.iadd, 1) := dk_96 (dk_at dksX5_behind_3 7 rfl rfl)
theorem dX5_behind_78 : decode cX5_behind 78 = .ok (.putfield 416, 3) := dk_181 1 160 (dk_at dksX5_behind_3 8 rfl rfl)
theorem dX5_behind_81 : decode cX5_behind 81 = .ok (.aload_n 0, 1) := dk_42 (dk_at dksX5_behind_3 11 rfl rfl)
theorem dX5_behind_82 : decode cX5_behind 82 = .ok (.iconst 0, 1) := dk_3 (dk_at dksX5_behind_3 12 rfl rfl)
theorem dX5_behind_83 : decode cX5_behind 83 = .ok (.putfield 432, 3) := dk_181 1 176 (dk_at dksX5_behind_3 13 rfl rfl)
theorem dX5_behind_86 : decode cX5_behind 86 = .ok (.aload_n 0, 1) := dk_42 (dk_at dksX5_behind_3 16 rfl rfl)
theorem dX5_behind_87 : decode cX5_behind 87 = .ok (.invokevirtual 184, 3) := dk_182 0 184 (dk_at dksX5_behind_3 17 rfl rfl)
theorem dX5_behind_90 : decode cX5_behind 90 = .ok (.iconst 1, 1) := dk_4 (dk_at dksX5_behind_3 20 rfl rfl)
theorem dX5_behind_91 : decode cX5_behind 91 = .ok (.ireturn, 1) := dk_172 (dk_at dksX5_behind_3 21 rfl rfl)
theorem dX5_behind_92 : decode cX5_behind 92 = .ok (.aload_n 0, 1) := dk_42 (dk_at dksX5_behind_3 22 rfl rfl)
theorem dX5_behind_93 : decode cX5_behind 93 = .ok (.bipush 22, 2) := dk_16 22 (dk_at dksX5_behind_4 0 rfl rfl)
theorem dX5_behind_95 : decode cX5_behind 95 = .ok (.invokevirtual 438, 3) := dk_182 1 182 (dk_at dksX5_behind_4 2 rfl rfl)
theorem dX5_behind_98 : decode cX5_behind 98 = .ok (.aload_n 0, 1) := dk_42 (dk_at dksX5_behind_4 5 rfl rfl)
theorem dX5_behind_99 : decode cX5_behind 99 = .ok (.bipush 41, 2) := dk_16 41 (dk_at dksX5_behind_4 6 rfl rfl)
theorem dX5_behind_101 : decode cX5_behind 101 = .ok (.invokevirtual 178, 3) := dk_182 0 178 (dk_at dksX5_behind_4 8 rfl rfl)
theorem dX5_behind_104 : decode cX5_behind 104 = .ok (.ifCond .eq 10, 3) := dk_153 0 10 (dk_at dksX5_behind_4 11 rfl rfl)
theorem dX5_behind_107 : decode cX5_behind 107 = .ok (.aload_n 0, 1) := dk_42 (dk_at dksX5_behind_4 14 rfl rfl)
theorem dX5_behind_108 : decode cX5_behind 108 = .ok (.getfield 416, 3) := dk_180 1 160 (dk_at dksX5_behind_4 15 rfl rfl)
theorem dX5_behind_111 : decode cX5_behind 111 = .ok (.ifCond .ne 9, 3) := dk_154 0 9 (dk_at dksX5_behind_4 18 rfl rfl)
theorem dX5_behind_114 : decode cX5_behind 114 = .ok (.aload_n 0, 1) := dk_42 (dk_at dksX5_behind_4 21 rfl rfl)
theorem dX5_behind_115 : decode cX5_behind 115 = .ok (.iconst 1, 1) := dk_4 (dk_at dksX5_behind_4 22 rfl rfl)
theorem dX5_behind_116 : decode cX5_behind 116 = .ok (.invokevirtual 181, 3) := dk_182 0 181 (dk_at dksX5_behind_5 0 rfl rfl)
theorem dX5_behind_119 : decode cX5_behind 119 = .ok (.ireturn, 1) := dk_172 (dk_at dksX5_behind_5 3 rfl rfl)
theorem dX5_behind_120 : decode cX5_behind 120 = .ok (.aload_n 0, 1) := dk_42 (dk_at dksX5_behind_5 4 rfl rfl)
theorem dX5_behind_121 : decode cX5_behind 121 = .ok (.dup, 1) := dk_89 (dk_at dksX5_behind_5 5 rfl rfl)
theorem dX5_behind_122 : decode cX5_behind 122 = .ok (.getfield 416, 3) := dk_180 1 160 (dk_at dksX5_behind_5 6 rfl rfl)
theorem dX5_behind_125 : decode cX5_behind 125 = .ok (.iconst 1, 1) := dk_4 (dk_at dksX5_behind_5 9 rfl rfl)
theorem dX5_behind_126 : decode cX5_behind 126 = .ok (.isub, 1) := dk_100 (dk_at dksX5_behind_5 10 rfl rfl)
theorem dX5_behind_127 : decode cX5_behind 127 = .ok (.putfield 416, 3) := dk_181 1 160 (dk_at dksX5_behind_5 11 rfl rfl)
theorem dX5_behind_130 : decode cX5_behind 130 = .ok (.aload_n 0, 1) := dk_42 (dk_at dksX5_behind_5 14 rfl rfl)
theorem dX5_behind_131 : decode cX5_behind 131 = .ok (.dup, 1) := dk_89 (dk_at dksX5_behind_5 15 rfl rfl)
theorem dX5_behind_132 : decode cX5_behind 132 = .ok (.getfield 423, 3) := dk_180 1 167 (dk_at dksX5_behind_5 16 rfl rfl)
theorem dX5_behind_135 : decode cX5_behind 135 = .ok (.iconst 1, 1) := dk_4 (dk_at dksX5_behind_5 19 rfl rfl)
theorem dX5_behind_136 : decode cX5_behind 136 = .ok (.isub, 1) := dk_100 (dk_at dksX5_behind_5 20 rfl rfl)
theorem dX5_behind_137 : decode cX5_behind 137 = .ok (.putfield 423, 3) := dk_181 1 167 (dk_at dksX5_behind_5 21 rfl rfl)
theorem dX5_behind_140 : decode cX5_behind 140 = .ok (.aload_n 0, 1) := dk_42 (dk_at dksX5_behind_6 0 rfl rfl)
theorem dX5_behind_141 : decode cX5_behind 141 = .ok (.invokevirtual 184, 3) := dk_182 0 184 (dk_at dksX5_behind_6 1 rfl rfl)
theorem dX5_behind_144 : decode cX5_behind 144 = .ok (.iconst 1, 1) := dk_4 (dk_at dksX5_behind_6 4 rfl rfl)
theorem dX5_behind_145 : decode cX5_behind 145 = .ok (.ireturn, 1) := dk_172 (dk_at dksX5_behind_6 5 rfl rfl)
abbrev cX5_operand : ByteArray := prog_26_method_109_code
def yX5_operand : MethodName := ⟨RX5, "operand", "()Z"⟩
def dkwX5_operand_10 : List UInt8 := [29, 21, 4, 42, 180, 0, 165, 182, 1, 163, 42, 182, 0, 184, 4, 172]
abbrev dktX5_operand_10 : List UInt8 := dkwX5_operand_10 ++ []
def dkwX5_operand_9 : List UInt8 := [180, 0, 165, 54, 4, 42, 182, 0, 184, 42, 180, 0, 155, 5, 159, 0, 9, 42, 4, 182, 0, 181, 172, 42]
abbrev dktX5_operand_9 : List UInt8 := dkwX5_operand_9 ++ dktX5_operand_10
def dkwX5_operand_8 : List UInt8 := [180, 0, 165, 16, 60, 161, 0, 12, 42, 180, 0, 165, 16, 62, 164, 0, 9, 42, 4, 182, 0, 181, 172, 42]
abbrev dktX5_operand_8 : List UInt8 := dkwX5_operand_8 ++ dktX5_operand_9
def dkwX5_operand_7 : List UInt8 := [29, 3, 42, 180, 0, 191, 182, 1, 163, 42, 182, 0, 184, 4, 172, 42, 180, 0, 155, 6, 160, 0, 21, 42]
abbrev dktX5_operand_7 : List UInt8 := dkwX5_operand_7 ++ dktX5_operand_8
def dkwX5_operand_6 : List UInt8 := [172, 29, 8, 160, 0, 36, 42, 16, 8, 42, 180, 0, 33, 7, 46, 182, 0, 202, 154, 0, 5, 3, 172, 42]
abbrev dktX5_operand_6 : List UInt8 := dkwX5_operand_6 ++ dktX5_operand_7
def dkwX5_operand_5 : List UInt8 := [96, 181, 1, 167, 4, 172, 42, 4, 181, 1, 176, 29, 8, 162, 0, 12, 42, 29, 3, 3, 182, 1, 163, 4]
abbrev dktX5_operand_5 : List UInt8 := dkwX5_operand_5 ++ dktX5_operand_6
def dkwX5_operand_4 : List UInt8 := [16, 20, 167, 0, 5, 16, 23, 79, 42, 89, 180, 1, 160, 4, 96, 181, 1, 160, 42, 89, 180, 1, 167, 4]
abbrev dktX5_operand_4 : List UInt8 := dkwX5_operand_4 ++ dktX5_operand_5
def dkwX5_operand_3 : List UInt8 := [42, 182, 0, 184, 27, 154, 0, 7, 28, 153, 0, 45, 42, 180, 0, 75, 42, 180, 1, 160, 27, 153, 0, 8]
abbrev dktX5_operand_3 : List UInt8 := dkwX5_operand_3 ++ dktX5_operand_4
def dkwX5_operand_2 : List UInt8 := [180, 1, 167, 16, 8, 164, 0, 9, 42, 7, 182, 0, 181, 172, 42, 89, 180, 1, 173, 4, 96, 181, 1, 173]
abbrev dktX5_operand_2 : List UInt8 := dkwX5_operand_2 ++ dktX5_operand_3
def dkwX5_operand_1 : List UInt8 := [28, 154, 0, 13, 29, 156, 0, 9, 42, 4, 182, 0, 181, 172, 42, 180, 1, 173, 16, 20, 159, 0, 12, 42]
abbrev dktX5_operand_1 : List UInt8 := dkwX5_operand_1 ++ dktX5_operand_2
def dkwX5_operand_0 : List UInt8 := [42, 20, 0, 123, 182, 0, 206, 60, 42, 16, 40, 182, 0, 178, 61, 42, 182, 1, 170, 62, 27, 154, 0, 17]
abbrev dktX5_operand_0 : List UInt8 := dkwX5_operand_0 ++ dktX5_operand_1
theorem dksX5_operand_0 : cX5_operand.data.toList.drop 0 = dktX5_operand_0 := by decide +kernel
theorem dksX5_operand_1 : cX5_operand.data.toList.drop 24 = dktX5_operand_1 := dk_seg dksX5_operand_0 24 rfl rfl
theorem dksX5_operand_2 : cX5_operand.data.toList.drop 48 = dktX5_operand_2 := dk_seg dksX5_operand_1 24 rfl rfl
theorem dksX5_operand_3 : cX5_operand.data.toList.drop 72 = dktX5_operand_3 := dk_seg dksX5_operand_2 24 rfl rfl
theorem dksX5_operand_4 : cX5_operand.data.toList.drop 96 = dktX5_operand_4 := dk_seg dksX5_operand_3 24 rfl rfl
theorem dksX5_operand_5 : cX5_operand.data.toList.drop 120 = dktX5_operand_5 := dk_seg dksX5_operand_4 24 rfl rfl
theorem dksX5_operand_6 : cX5_operand.data.toList.drop 144 = dktX5_operand_6 := dk_seg dksX5_operand_5 24 rfl rfl
theorem dksX5_operand_7 : cX5_operand.data.toList.drop 168 = dktX5_operand_7 := dk_seg dksX5_operand_6 24 rfl rfl
theorem dksX5_operand_8 : cX5_operand.data.toList.drop 192 = dktX5_operand_8 := dk_seg dksX5_operand_7 24 rfl rfl
theorem dksX5_operand_9 : cX5_operand.data.toList.drop 216 = dktX5_operand_9 := dk_seg dksX5_operand_8 24 rfl rfl
theorem dksX5_operand_10 : cX5_operand.data.toList.drop 240 = dktX5_operand_10 := dk_seg dksX5_operand_9 24 rfl rfl
theorem dX5_operand_0 : decode cX5_operand 0 = .ok (.aload_n 0, 1) := dk_42 (dk_at dksX5_operand_0 0 rfl rfl)
theorem dX5_operand_1 : decode cX5_operand 1 = .ok (.ldc2_w 123, 3) := dk_20 0 123 (dk_at dksX5_operand_0 1 rfl rfl)
theorem dX5_operand_4 : decode cX5_operand 4 = .ok (.invokevirtual 206, 3) := dk_182 0 206 (dk_at dksX5_operand_0 4 rfl rfl)
theorem dX5_operand_7 : decode cX5_operand 7 = .ok (.istore_n 1, 1) := dk_60 (dk_at dksX5_operand_0 7 rfl rfl)
theorem dX5_operand_8 : decode cX5_operand 8 = .ok (.aload_n 0, 1) := dk_42 (dk_at dksX5_operand_0 8 rfl rfl)
theorem dX5_operand_9 : decode cX5_operand 9 = .ok (.bipush 40, 2) := dk_16 40 (dk_at dksX5_operand_0 9 rfl rfl)
theorem dX5_operand_11 : decode cX5_operand 11 = .ok (.invokevirtual 178, 3) := dk_182 0 178 (dk_at dksX5_operand_0 11 rfl rfl)
theorem dX5_operand_14 : decode cX5_operand 14 = .ok (.istore_n 2, 1) := dk_61 (dk_at dksX5_operand_0 14 rfl rfl)
theorem dX5_operand_15 : decode cX5_operand 15 = .ok (.aload_n 0, 1) := dk_42 (dk_at dksX5_operand_0 15 rfl rfl)
theorem dX5_operand_16 : decode cX5_operand 16 = .ok (.invokevirtual 426, 3) := dk_182 1 170 (dk_at dksX5_operand_0 16 rfl rfl)
theorem dX5_operand_19 : decode cX5_operand 19 = .ok (.istore_n 3, 1) := dk_62 (dk_at dksX5_operand_0 19 rfl rfl)
theorem dX5_operand_20 : decode cX5_operand 20 = .ok (.iload_n 1, 1) := dk_27 (dk_at dksX5_operand_0 20 rfl rfl)
theorem dX5_operand_21 : decode cX5_operand 21 = .ok (.ifCond .ne 17, 3) := dk_154 0 17 (dk_at dksX5_operand_0 21 rfl rfl)
theorem dX5_operand_24 : decode cX5_operand 24 = .ok (.iload_n 2, 1) := dk_28 (dk_at dksX5_operand_1 0 rfl rfl)
theorem dX5_operand_25 : decode cX5_operand 25 = .ok (.ifCond .ne 13, 3) := dk_154 0 13 (dk_at dksX5_operand_1 1 rfl rfl)
theorem dX5_operand_28 : decode cX5_operand 28 = .ok (.iload_n 3, 1) := dk_29 (dk_at dksX5_operand_1 4 rfl rfl)
theorem dX5_operand_29 : decode cX5_operand 29 = .ok (.ifCond .ge 9, 3) := dk_156 0 9 (dk_at dksX5_operand_1 5 rfl rfl)
theorem dX5_operand_32 : decode cX5_operand 32 = .ok (.aload_n 0, 1) := dk_42 (dk_at dksX5_operand_1 8 rfl rfl)
theorem dX5_operand_33 : decode cX5_operand 33 = .ok (.iconst 1, 1) := dk_4 (dk_at dksX5_operand_1 9 rfl rfl)
theorem dX5_operand_34 : decode cX5_operand 34 = .ok (.invokevirtual 181, 3) := dk_182 0 181 (dk_at dksX5_operand_1 10 rfl rfl)
theorem dX5_operand_37 : decode cX5_operand 37 = .ok (.ireturn, 1) := dk_172 (dk_at dksX5_operand_1 13 rfl rfl)
theorem dX5_operand_38 : decode cX5_operand 38 = .ok (.aload_n 0, 1) := dk_42 (dk_at dksX5_operand_1 14 rfl rfl)
theorem dX5_operand_39 : decode cX5_operand 39 = .ok (.getfield 429, 3) := dk_180 1 173 (dk_at dksX5_operand_1 15 rfl rfl)
theorem dX5_operand_42 : decode cX5_operand 42 = .ok (.bipush 20, 2) := dk_16 20 (dk_at dksX5_operand_1 18 rfl rfl)
theorem dX5_operand_44 : decode cX5_operand 44 = .ok (.if_icmp .eq 12, 3) := dk_159 0 12 (dk_at dksX5_operand_1 20 rfl rfl)
theorem dX5_operand_47 : decode cX5_operand 47 = .ok (.aload_n 0, 1) := dk_42 (dk_at dksX5_operand_1 23 rfl rfl)
theorem dX5_operand_48 : decode cX5_operand 48 = .ok (.getfield 423, 3) := dk_180 1 167 (dk_at dksX5_operand_2 0 rfl rfl)
theorem dX5_operand_51 : decode cX5_operand 51 = .ok (.bipush 8, 2) := dk_16 8 (dk_at dksX5_operand_2 3 rfl rfl)
theorem dX5_operand_53 : decode cX5_operand 53 = .ok (.if_icmp .le 9, 3) := dk_164 0 9 (dk_at dksX5_operand_2 5 rfl rfl)
theorem dX5_operand_56 : decode cX5_operand 56 = .ok (.aload_n 0, 1) := dk_42 (dk_at dksX5_operand_2 8 rfl rfl)
theorem dX5_operand_57 : decode cX5_operand 57 = .ok (.iconst 4, 1) := dk_7 (dk_at dksX5_operand_2 9 rfl rfl)
theorem dX5_operand_58 : decode cX5_operand 58 = .ok (.invokevirtual 181, 3) := dk_182 0 181 (dk_at dksX5_operand_2 10 rfl rfl)
theorem dX5_operand_61 : decode cX5_operand 61 = .ok (.ireturn, 1) := dk_172 (dk_at dksX5_operand_2 13 rfl rfl)
theorem dX5_operand_62 : decode cX5_operand 62 = .ok (.aload_n 0, 1) := dk_42 (dk_at dksX5_operand_2 14 rfl rfl)
theorem dX5_operand_63 : decode cX5_operand 63 = .ok (.dup, 1) := dk_89 (dk_at dksX5_operand_2 15 rfl rfl)
theorem dX5_operand_64 : decode cX5_operand 64 = .ok (.getfield 429, 3) := dk_180 1 173 (dk_at dksX5_operand_2 16 rfl rfl)
theorem dX5_operand_67 : decode cX5_operand 67 = .ok (.iconst 1, 1) := dk_4 (dk_at dksX5_operand_2 19 rfl rfl)
theorem dX5_operand_68 : decode cX5_operand 68 = .ok (.iadd, 1) := dk_96 (dk_at dksX5_operand_2 20 rfl rfl)
theorem dX5_operand_69 : decode cX5_operand 69 = .ok (.putfield 429, 3) := dk_181 1 173 (dk_at dksX5_operand_2 21 rfl rfl)
theorem dX5_operand_72 : decode cX5_operand 72 = .ok (.aload_n 0, 1) := dk_42 (dk_at dksX5_operand_3 0 rfl rfl)
theorem dX5_operand_73 : decode cX5_operand 73 = .ok (.invokevirtual 184, 3) := dk_182 0 184 (dk_at dksX5_operand_3 1 rfl rfl)
theorem dX5_operand_76 : decode cX5_operand 76 = .ok (.iload_n 1, 1) := dk_27 (dk_at dksX5_operand_3 4 rfl rfl)
theorem dX5_operand_77 : decode cX5_operand 77 = .ok (.ifCond .ne 7, 3) := dk_154 0 7 (dk_at dksX5_operand_3 5 rfl rfl)
theorem dX5_operand_80 : decode cX5_operand 80 = .ok (.iload_n 2, 1) := dk_28 (dk_at dksX5_operand_3 8 rfl rfl)
theorem dX5_operand_81 : decode cX5_operand 81 = .ok (.ifCond .eq 45, 3) := dk_153 0 45 (dk_at dksX5_operand_3 9 rfl rfl)
theorem dX5_operand_84 : decode cX5_operand 84 = .ok (.aload_n 0, 1) := dk_42 (dk_at dksX5_operand_3 12 rfl rfl)
theorem dX5_operand_85 : decode cX5_operand 85 = .ok (.getfield 75, 3) := dk_180 0 75 (dk_at dksX5_operand_3 13 rfl rfl)
theorem dX5_operand_88 : decode cX5_operand 88 = .ok (.aload_n 0, 1) := dk_42 (dk_at dksX5_operand_3 16 rfl rfl)
theorem dX5_operand_89 : decode cX5_operand 89 = .ok (.getfield 416, 3) := dk_180 1 160 (dk_at dksX5_operand_3 17 rfl rfl)
theorem dX5_operand_92 : decode cX5_operand 92 = .ok (.iload_n 1, 1) := dk_27 (dk_at dksX5_operand_3 20 rfl rfl)
theorem dX5_operand_93 : decode cX5_operand 93 = .ok (.ifCond .eq 8, 3) := dk_153 0 8 (dk_at dksX5_operand_3 21 rfl rfl)
theorem dX5_operand_96 : decode cX5_operand 96 = .ok (.bipush 20, 2) := dk_16 20 (dk_at dksX5_operand_4 0 rfl rfl)
theorem dX5_operand_98 : decode cX5_operand 98 = .ok (.goto 5, 3) := dk_167 0 5 (dk_at dksX5_operand_4 2 rfl rfl)
theorem dX5_operand_101 : decode cX5_operand 101 = .ok (.bipush 23, 2) := dk_16 23 (dk_at dksX5_operand_4 5 rfl rfl)
theorem dX5_operand_103 : decode cX5_operand 103 = .ok (.iastore, 1) := dk_79 (dk_at dksX5_operand_4 7 rfl rfl)
theorem dX5_operand_104 : decode cX5_operand 104 = .ok (.aload_n 0, 1) := dk_42 (dk_at dksX5_operand_4 8 rfl rfl)
theorem dX5_operand_105 : decode cX5_operand 105 = .ok (.dup, 1) := dk_89 (dk_at dksX5_operand_4 9 rfl rfl)
theorem dX5_operand_106 : decode cX5_operand 106 = .ok (.getfield 416, 3) := dk_180 1 160 (dk_at dksX5_operand_4 10 rfl rfl)
theorem dX5_operand_109 : decode cX5_operand 109 = .ok (.iconst 1, 1) := dk_4 (dk_at dksX5_operand_4 13 rfl rfl)
theorem dX5_operand_110 : decode cX5_operand 110 = .ok (.iadd, 1) := dk_96 (dk_at dksX5_operand_4 14 rfl rfl)
theorem dX5_operand_111 : decode cX5_operand 111 = .ok (.putfield 416, 3) := dk_181 1 160 (dk_at dksX5_operand_4 15 rfl rfl)
theorem dX5_operand_114 : decode cX5_operand 114 = .ok (.aload_n 0, 1) := dk_42 (dk_at dksX5_operand_4 18 rfl rfl)
theorem dX5_operand_115 : decode cX5_operand 115 = .ok (.dup, 1) := dk_89 (dk_at dksX5_operand_4 19 rfl rfl)
theorem dX5_operand_116 : decode cX5_operand 116 = .ok (.getfield 423, 3) := dk_180 1 167 (dk_at dksX5_operand_4 20 rfl rfl)
theorem dX5_operand_119 : decode cX5_operand 119 = .ok (.iconst 1, 1) := dk_4 (dk_at dksX5_operand_4 23 rfl rfl)
theorem dX5_operand_120 : decode cX5_operand 120 = .ok (.iadd, 1) := dk_96 (dk_at dksX5_operand_5 0 rfl rfl)
theorem dX5_operand_121 : decode cX5_operand 121 = .ok (.putfield 423, 3) := dk_181 1 167 (dk_at dksX5_operand_5 1 rfl rfl)
theorem dX5_operand_124 : decode cX5_operand 124 = .ok (.iconst 1, 1) := dk_4 (dk_at dksX5_operand_5 4 rfl rfl)
theorem dX5_operand_125 : decode cX5_operand 125 = .ok (.ireturn, 1) := dk_172 (dk_at dksX5_operand_5 5 rfl rfl)
theorem dX5_operand_126 : decode cX5_operand 126 = .ok (.aload_n 0, 1) := dk_42 (dk_at dksX5_operand_5 6 rfl rfl)
theorem dX5_operand_127 : decode cX5_operand 127 = .ok (.iconst 1, 1) := dk_4 (dk_at dksX5_operand_5 7 rfl rfl)
theorem dX5_operand_128 : decode cX5_operand 128 = .ok (.putfield 432, 3) := dk_181 1 176 (dk_at dksX5_operand_5 8 rfl rfl)
theorem dX5_operand_131 : decode cX5_operand 131 = .ok (.iload_n 3, 1) := dk_29 (dk_at dksX5_operand_5 11 rfl rfl)
theorem dX5_operand_132 : decode cX5_operand 132 = .ok (.iconst 5, 1) := dk_8 (dk_at dksX5_operand_5 12 rfl rfl)
theorem dX5_operand_133 : decode cX5_operand 133 = .ok (.if_icmp .ge 12, 3) := dk_162 0 12 (dk_at dksX5_operand_5 13 rfl rfl)
theorem dX5_operand_136 : decode cX5_operand 136 = .ok (.aload_n 0, 1) := dk_42 (dk_at dksX5_operand_5 16 rfl rfl)
theorem dX5_operand_137 : decode cX5_operand 137 = .ok (.iload_n 3, 1) := dk_29 (dk_at dksX5_operand_5 17 rfl rfl)
theorem dX5_operand_138 : decode cX5_operand 138 = .ok (.iconst 0, 1) := dk_3 (dk_at dksX5_operand_5 18 rfl rfl)
theorem dX5_operand_139 : decode cX5_operand 139 = .ok (.iconst 0, 1) := dk_3 (dk_at dksX5_operand_5 19 rfl rfl)
theorem dX5_operand_140 : decode cX5_operand 140 = .ok (.invokevirtual 419, 3) := dk_182 1 163 (dk_at dksX5_operand_5 20 rfl rfl)
theorem dX5_operand_143 : decode cX5_operand 143 = .ok (.iconst 1, 1) := dk_4 (dk_at dksX5_operand_5 23 rfl rfl)
theorem dX5_operand_144 : decode cX5_operand 144 = .ok (.ireturn, 1) := dk_172 (dk_at dksX5_operand_6 0 rfl rfl)
theorem dX5_operand_145 : decode cX5_operand 145 = .ok (.iload_n 3, 1) := dk_29 (dk_at dksX5_operand_6 1 rfl rfl)
theorem dX5_operand_146 : decode cX5_operand 146 = .ok (.iconst 5, 1) := dk_8 (dk_at dksX5_operand_6 2 rfl rfl)
theorem dX5_operand_147 : decode cX5_operand 147 = .ok (.if_icmp .ne 36, 3) := dk_160 0 36 (dk_at dksX5_operand_6 3 rfl rfl)
theorem dX5_operand_150 : decode cX5_operand 150 = .ok (.aload_n 0, 1) := dk_42 (dk_at dksX5_operand_6 6 rfl rfl)
theorem dX5_operand_151 : decode cX5_operand 151 = .ok (.bipush 8, 2) := dk_16 8 (dk_at dksX5_operand_6 7 rfl rfl)
theorem dX5_operand_153 : decode cX5_operand 153 = .ok (.aload_n 0, 1) := dk_42 (dk_at dksX5_operand_6 9 rfl rfl)
theorem dX5_operand_154 : decode cX5_operand 154 = .ok (.getfield 33, 3) := dk_180 0 33 (dk_at dksX5_operand_6 10 rfl rfl)
theorem dX5_operand_157 : decode cX5_operand 157 = .ok (.iconst 4, 1) := dk_7 (dk_at dksX5_operand_6 13 rfl rfl)
theorem dX5_operand_158 : decode cX5_operand 158 = .ok (.iaload, 1) := dk_46 (dk_at dksX5_operand_6 14 rfl rfl)
theorem dX5_operand_159 : decode cX5_operand 159 = .ok (.invokevirtual 202, 3) := dk_182 0 202 (dk_at dksX5_operand_6 15 rfl rfl)
theorem dX5_operand_162 : decode cX5_operand 162 = .ok (.ifCond .ne 5, 3) := dk_154 0 5 (dk_at dksX5_operand_6 18 rfl rfl)
theorem dX5_operand_165 : decode cX5_operand 165 = .ok (.iconst 0, 1) := dk_3 (dk_at dksX5_operand_6 21 rfl rfl)
theorem dX5_operand_166 : decode cX5_operand 166 = .ok (.ireturn, 1) := dk_172 (dk_at dksX5_operand_6 22 rfl rfl)
theorem dX5_operand_167 : decode cX5_operand 167 = .ok (.aload_n 0, 1) := dk_42 (dk_at dksX5_operand_6 23 rfl rfl)
theorem dX5_operand_168 : decode cX5_operand 168 = .ok (.iload_n 3, 1) := dk_29 (dk_at dksX5_operand_7 0 rfl rfl)
theorem dX5_operand_169 : decode cX5_operand 169 = .ok (.iconst 0, 1) := dk_3 (dk_at dksX5_operand_7 1 rfl rfl)
theorem dX5_operand_170 : decode cX5_operand 170 = .ok (.aload_n 0, 1) := dk_42 (dk_at dksX5_operand_7 2 rfl rfl)
theorem dX5_operand_171 : decode cX5_operand 171 = .ok (.getfield 191, 3) := dk_180 0 191 (dk_at dksX5_operand_7 3 rfl rfl)
theorem dX5_operand_174 : decode cX5_operand 174 = .ok (.invokevirtual 419, 3) := dk_182 1 163 (dk_at dksX5_operand_7 6 rfl rfl)
theorem dX5_operand_177 : decode cX5_operand 177 = .ok (.aload_n 0, 1) := dk_42 (dk_at dksX5_operand_7 9 rfl rfl)
theorem dX5_operand_178 : decode cX5_operand 178 = .ok (.invokevirtual 184, 3) := dk_182 0 184 (dk_at dksX5_operand_7 10 rfl rfl)
theorem dX5_operand_181 : decode cX5_operand 181 = .ok (.iconst 1, 1) := dk_4 (dk_at dksX5_operand_7 13 rfl rfl)
theorem dX5_operand_182 : decode cX5_operand 182 = .ok (.ireturn, 1) := dk_172 (dk_at dksX5_operand_7 14 rfl rfl)
theorem dX5_operand_183 : decode cX5_operand 183 = .ok (.aload_n 0, 1) := dk_42 (dk_at dksX5_operand_7 15 rfl rfl)
theorem dX5_operand_184 : decode cX5_operand 184 = .ok (.getfield 155, 3) := dk_180 0 155 (dk_at dksX5_operand_7 16 rfl rfl)
theorem dX5_operand_187 : decode cX5_operand 187 = .ok (.iconst 3, 1) := dk_6 (dk_at dksX5_operand_7 19 rfl rfl)
theorem dX5_operand_188 : decode cX5_operand 188 = .ok (.if_icmp .ne 21, 3) := dk_160 0 21 (dk_at dksX5_operand_7 20 rfl rfl)
theorem dX5_operand_191 : decode cX5_operand 191 = .ok (.aload_n 0, 1) := dk_42 (dk_at dksX5_operand_7 23 rfl rfl)
theorem dX5_operand_192 : decode cX5_operand 192 = .ok (.getfield 165, 3) := dk_180 0 165 (dk_at dksX5_operand_8 0 rfl rfl)
theorem dX5_operand_195 : decode cX5_operand 195 = .ok (.bipush 60, 2) := dk_16 60 (dk_at dksX5_operand_8 3 rfl rfl)
theorem dX5_operand_197 : decode cX5_operand 197 = .ok (.if_icmp .lt 12, 3) := dk_161 0 12 (dk_at dksX5_operand_8 5 rfl rfl)
theorem dX5_operand_200 : decode cX5_operand 200 = .ok (.aload_n 0, 1) := dk_42 (dk_at dksX5_operand_8 8 rfl rfl)
theorem dX5_operand_201 : decode cX5_operand 201 = .ok (.getfield 165, 3) := dk_180 0 165 (dk_at dksX5_operand_8 9 rfl rfl)
theorem dX5_operand_204 : decode cX5_operand 204 = .ok (.bipush 62, 2) := dk_16 62 (dk_at dksX5_operand_8 12 rfl rfl)
theorem dX5_operand_206 : decode cX5_operand 206 = .ok (.if_icmp .le 9, 3) := dk_164 0 9 (dk_at dksX5_operand_8 14 rfl rfl)
theorem dX5_operand_209 : decode cX5_operand 209 = .ok (.aload_n 0, 1) := dk_42 (dk_at dksX5_operand_8 17 rfl rfl)
theorem dX5_operand_210 : decode cX5_operand 210 = .ok (.iconst 1, 1) := dk_4 (dk_at dksX5_operand_8 18 rfl rfl)
theorem dX5_operand_211 : decode cX5_operand 211 = .ok (.invokevirtual 181, 3) := dk_182 0 181 (dk_at dksX5_operand_8 19 rfl rfl)
theorem dX5_operand_214 : decode cX5_operand 214 = .ok (.ireturn, 1) := dk_172 (dk_at dksX5_operand_8 22 rfl rfl)
theorem dX5_operand_215 : decode cX5_operand 215 = .ok (.aload_n 0, 1) := dk_42 (dk_at dksX5_operand_8 23 rfl rfl)
theorem dX5_operand_216 : decode cX5_operand 216 = .ok (.getfield 165, 3) := dk_180 0 165 (dk_at dksX5_operand_9 0 rfl rfl)
theorem dX5_operand_219 : decode cX5_operand 219 = .ok (.istore 4, 2) := dk_54 4 (dk_at dksX5_operand_9 3 rfl rfl)
theorem dX5_operand_221 : decode cX5_operand 221 = .ok (.aload_n 0, 1) := dk_42 (dk_at dksX5_operand_9 5 rfl rfl)
theorem dX5_operand_222 : decode cX5_operand 222 = .ok (.invokevirtual 184, 3) := dk_182 0 184 (dk_at dksX5_operand_9 6 rfl rfl)
theorem dX5_operand_225 : decode cX5_operand 225 = .ok (.aload_n 0, 1) := dk_42 (dk_at dksX5_operand_9 9 rfl rfl)
theorem dX5_operand_226 : decode cX5_operand 226 = .ok (.getfield 155, 3) := dk_180 0 155 (dk_at dksX5_operand_9 10 rfl rfl)
theorem dX5_operand_229 : decode cX5_operand 229 = .ok (.iconst 2, 1) := dk_5 (dk_at dksX5_operand_9 13 rfl rfl)
theorem dX5_operand_230 : decode cX5_operand 230 = .ok (.if_icmp .eq 9, 3) := dk_159 0 9 (dk_at dksX5_operand_9 14 rfl rfl)
theorem dX5_operand_233 : decode cX5_operand 233 = .ok (.aload_n 0, 1) := dk_42 (dk_at dksX5_operand_9 17 rfl rfl)
theorem dX5_operand_234 : decode cX5_operand 234 = .ok (.iconst 1, 1) := dk_4 (dk_at dksX5_operand_9 18 rfl rfl)
theorem dX5_operand_235 : decode cX5_operand 235 = .ok (.invokevirtual 181, 3) := dk_182 0 181 (dk_at dksX5_operand_9 19 rfl rfl)
theorem dX5_operand_238 : decode cX5_operand 238 = .ok (.ireturn, 1) := dk_172 (dk_at dksX5_operand_9 22 rfl rfl)
theorem dX5_operand_239 : decode cX5_operand 239 = .ok (.aload_n 0, 1) := dk_42 (dk_at dksX5_operand_9 23 rfl rfl)
theorem dX5_operand_240 : decode cX5_operand 240 = .ok (.iload_n 3, 1) := dk_29 (dk_at dksX5_operand_10 0 rfl rfl)
theorem dX5_operand_241 : decode cX5_operand 241 = .ok (.iload 4, 2) := dk_21 4 (dk_at dksX5_operand_10 1 rfl rfl)
theorem dX5_operand_243 : decode cX5_operand 243 = .ok (.aload_n 0, 1) := dk_42 (dk_at dksX5_operand_10 3 rfl rfl)
theorem dX5_operand_244 : decode cX5_operand 244 = .ok (.getfield 165, 3) := dk_180 0 165 (dk_at dksX5_operand_10 4 rfl rfl)
theorem dX5_operand_247 : decode cX5_operand 247 = .ok (.invokevirtual 419, 3) := dk_182 1 163 (dk_at dksX5_operand_10 7 rfl rfl)
theorem dX5_operand_250 : decode cX5_operand 250 = .ok (.aload_n 0, 1) := dk_42 (dk_at dksX5_operand_10 10 rfl rfl)
theorem dX5_operand_251 : decode cX5_operand 251 = .ok (.invokevirtual 184, 3) := dk_182 0 184 (dk_at dksX5_operand_10 11 rfl rfl)
theorem dX5_operand_254 : decode cX5_operand 254 = .ok (.iconst 1, 1) := dk_4 (dk_at dksX5_operand_10 14 rfl rfl)
theorem dX5_operand_255 : decode cX5_operand 255 = .ok (.ireturn, 1) := dk_172 (dk_at dksX5_operand_10 15 rfl rfl)
abbrev cX5_leafOf : ByteArray := prog_26_method_108_code
def yX5_leafOf : MethodName := ⟨RX5, "leafOf", "()I"⟩
def dkwX5_leafOf_6 : List UInt8 := [167, 0, 4, 2, 172]
abbrev dktX5_leafOf_6 : List UInt8 := dkwX5_leafOf_6 ++ []
def dkwX5_leafOf_5 : List UInt8 := [182, 0, 206, 153, 0, 8, 16, 8, 167, 0, 19, 42, 20, 0, 143, 182, 0, 206, 153, 0, 8, 16, 9]
abbrev dktX5_leafOf_5 : List UInt8 := dkwX5_leafOf_5 ++ dktX5_leafOf_6
def dkwX5_leafOf_4 : List UInt8 := [16, 6, 167, 0, 49, 42, 20, 0, 139, 182, 0, 206, 153, 0, 8, 16, 7, 167, 0, 34, 42, 20, 0, 141]
abbrev dktX5_leafOf_4 : List UInt8 := dkwX5_leafOf_4 ++ dktX5_leafOf_5
def dkwX5_leafOf_3 : List UInt8 := [42, 20, 0, 135, 182, 0, 206, 153, 0, 7, 8, 167, 0, 64, 42, 20, 0, 137, 182, 0, 206, 153, 0, 8]
abbrev dktX5_leafOf_3 : List UInt8 := dkwX5_leafOf_3 ++ dktX5_leafOf_4
def dkwX5_leafOf_2 : List UInt8 := [182, 0, 206, 153, 0, 7, 6, 167, 0, 92, 42, 20, 0, 133, 182, 0, 206, 153, 0, 7, 7, 167, 0, 78]
abbrev dktX5_leafOf_2 : List UInt8 := dkwX5_leafOf_2 ++ dktX5_leafOf_3
def dkwX5_leafOf_1 : List UInt8 := [4, 167, 0, 120, 42, 20, 0, 129, 182, 0, 206, 153, 0, 7, 5, 167, 0, 106, 42, 20, 0, 131]
abbrev dktX5_leafOf_1 : List UInt8 := dkwX5_leafOf_1 ++ dktX5_leafOf_2
def dkwX5_leafOf_0 : List UInt8 := [42, 20, 0, 125, 182, 0, 206, 153, 0, 7, 3, 167, 0, 134, 42, 20, 0, 127, 182, 0, 206, 153, 0, 7]
abbrev dktX5_leafOf_0 : List UInt8 := dkwX5_leafOf_0 ++ dktX5_leafOf_1
theorem dksX5_leafOf_0 : cX5_leafOf.data.toList.drop 0 = dktX5_leafOf_0 := by decide +kernel
theorem dksX5_leafOf_1 : cX5_leafOf.data.toList.drop 24 = dktX5_leafOf_1 := dk_seg dksX5_leafOf_0 24 rfl rfl
theorem dksX5_leafOf_2 : cX5_leafOf.data.toList.drop 46 = dktX5_leafOf_2 := dk_seg dksX5_leafOf_1 22 rfl rfl
theorem dksX5_leafOf_3 : cX5_leafOf.data.toList.drop 70 = dktX5_leafOf_3 := dk_seg dksX5_leafOf_2 24 rfl rfl
theorem dksX5_leafOf_4 : cX5_leafOf.data.toList.drop 94 = dktX5_leafOf_4 := dk_seg dksX5_leafOf_3 24 rfl rfl
theorem dksX5_leafOf_5 : cX5_leafOf.data.toList.drop 118 = dktX5_leafOf_5 := dk_seg dksX5_leafOf_4 24 rfl rfl
theorem dksX5_leafOf_6 : cX5_leafOf.data.toList.drop 141 = dktX5_leafOf_6 := dk_seg dksX5_leafOf_5 23 rfl rfl
theorem dX5_leafOf_0 : decode cX5_leafOf 0 = .ok (.aload_n 0, 1) := dk_42 (dk_at dksX5_leafOf_0 0 rfl rfl)
theorem dX5_leafOf_1 : decode cX5_leafOf 1 = .ok (.ldc2_w 125, 3) := dk_20 0 125 (dk_at dksX5_leafOf_0 1 rfl rfl)
theorem dX5_leafOf_4 : decode cX5_leafOf 4 = .ok (.invokevirtual 206, 3) := dk_182 0 206 (dk_at dksX5_leafOf_0 4 rfl rfl)
theorem dX5_leafOf_7 : decode cX5_leafOf 7 = .ok (.ifCond .eq 7, 3) := dk_153 0 7 (dk_at dksX5_leafOf_0 7 rfl rfl)
theorem dX5_leafOf_10 : decode cX5_leafOf 10 = .ok (.iconst 0, 1) := dk_3 (dk_at dksX5_leafOf_0 10 rfl rfl)
theorem dX5_leafOf_11 : decode cX5_leafOf 11 = .ok (.goto 134, 3) := dk_167 0 134 (dk_at dksX5_leafOf_0 11 rfl rfl)
theorem dX5_leafOf_14 : decode cX5_leafOf 14 = .ok (.aload_n 0, 1) := dk_42 (dk_at dksX5_leafOf_0 14 rfl rfl)
theorem dX5_leafOf_15 : decode cX5_leafOf 15 = .ok (.ldc2_w 127, 3) := dk_20 0 127 (dk_at dksX5_leafOf_0 15 rfl rfl)
theorem dX5_leafOf_18 : decode cX5_leafOf 18 = .ok (.invokevirtual 206, 3) := dk_182 0 206 (dk_at dksX5_leafOf_0 18 rfl rfl)
theorem dX5_leafOf_21 : decode cX5_leafOf 21 = .ok (.ifCond .eq 7, 3) := dk_153 0 7 (dk_at dksX5_leafOf_0 21 rfl rfl)
theorem dX5_leafOf_24 : decode cX5_leafOf 24 = .ok (.iconst 1, 1) := dk_4 (dk_at dksX5_leafOf_1 0 rfl rfl)
theorem dX5_leafOf_25 : decode cX5_leafOf 25 = .ok (.goto 120, 3) := dk_167 0 120 (dk_at dksX5_leafOf_1 1 rfl rfl)
theorem dX5_leafOf_28 : decode cX5_leafOf 28 = .ok (.aload_n 0, 1) := dk_42 (dk_at dksX5_leafOf_1 4 rfl rfl)
theorem dX5_leafOf_29 : decode cX5_leafOf 29 = .ok (.ldc2_w 129, 3) := dk_20 0 129 (dk_at dksX5_leafOf_1 5 rfl rfl)
theorem dX5_leafOf_32 : decode cX5_leafOf 32 = .ok (.invokevirtual 206, 3) := dk_182 0 206 (dk_at dksX5_leafOf_1 8 rfl rfl)
theorem dX5_leafOf_35 : decode cX5_leafOf 35 = .ok (.ifCond .eq 7, 3) := dk_153 0 7 (dk_at dksX5_leafOf_1 11 rfl rfl)
theorem dX5_leafOf_38 : decode cX5_leafOf 38 = .ok (.iconst 2, 1) := dk_5 (dk_at dksX5_leafOf_1 14 rfl rfl)
theorem dX5_leafOf_39 : decode cX5_leafOf 39 = .ok (.goto 106, 3) := dk_167 0 106 (dk_at dksX5_leafOf_1 15 rfl rfl)
theorem dX5_leafOf_42 : decode cX5_leafOf 42 = .ok (.aload_n 0, 1) := dk_42 (dk_at dksX5_leafOf_1 18 rfl rfl)
theorem dX5_leafOf_43 : decode cX5_leafOf 43 = .ok (.ldc2_w 131, 3) := dk_20 0 131 (dk_at dksX5_leafOf_1 19 rfl rfl)
theorem dX5_leafOf_46 : decode cX5_leafOf 46 = .ok (.invokevirtual 206, 3) := dk_182 0 206 (dk_at dksX5_leafOf_2 0 rfl rfl)
theorem dX5_leafOf_49 : decode cX5_leafOf 49 = .ok (.ifCond .eq 7, 3) := dk_153 0 7 (dk_at dksX5_leafOf_2 3 rfl rfl)
theorem dX5_leafOf_52 : decode cX5_leafOf 52 = .ok (.iconst 3, 1) := dk_6 (dk_at dksX5_leafOf_2 6 rfl rfl)
theorem dX5_leafOf_53 : decode cX5_leafOf 53 = .ok (.goto 92, 3) := dk_167 0 92 (dk_at dksX5_leafOf_2 7 rfl rfl)
theorem dX5_leafOf_56 : decode cX5_leafOf 56 = .ok (.aload_n 0, 1) := dk_42 (dk_at dksX5_leafOf_2 10 rfl rfl)
theorem dX5_leafOf_57 : decode cX5_leafOf 57 = .ok (.ldc2_w 133, 3) := dk_20 0 133 (dk_at dksX5_leafOf_2 11 rfl rfl)
theorem dX5_leafOf_60 : decode cX5_leafOf 60 = .ok (.invokevirtual 206, 3) := dk_182 0 206 (dk_at dksX5_leafOf_2 14 rfl rfl)
theorem dX5_leafOf_63 : decode cX5_leafOf 63 = .ok (.ifCond .eq 7, 3) := dk_153 0 7 (dk_at dksX5_leafOf_2 17 rfl rfl)
theorem dX5_leafOf_66 : decode cX5_leafOf 66 = .ok (.iconst 4, 1) := dk_7 (dk_at dksX5_leafOf_2 20 rfl rfl)
theorem dX5_leafOf_67 : decode cX5_leafOf 67 = .ok (.goto 78, 3) := dk_167 0 78 (dk_at dksX5_leafOf_2 21 rfl rfl)
theorem dX5_leafOf_70 : decode cX5_leafOf 70 = .ok (.aload_n 0, 1) := dk_42 (dk_at dksX5_leafOf_3 0 rfl rfl)
theorem dX5_leafOf_71 : decode cX5_leafOf 71 = .ok (.ldc2_w 135, 3) := dk_20 0 135 (dk_at dksX5_leafOf_3 1 rfl rfl)
theorem dX5_leafOf_74 : decode cX5_leafOf 74 = .ok (.invokevirtual 206, 3) := dk_182 0 206 (dk_at dksX5_leafOf_3 4 rfl rfl)
theorem dX5_leafOf_77 : decode cX5_leafOf 77 = .ok (.ifCond .eq 7, 3) := dk_153 0 7 (dk_at dksX5_leafOf_3 7 rfl rfl)
theorem dX5_leafOf_80 : decode cX5_leafOf 80 = .ok (.iconst 5, 1) := dk_8 (dk_at dksX5_leafOf_3 10 rfl rfl)
theorem dX5_leafOf_81 : decode cX5_leafOf 81 = .ok (.goto 64, 3) := dk_167 0 64 (dk_at dksX5_leafOf_3 11 rfl rfl)
theorem dX5_leafOf_84 : decode cX5_leafOf 84 = .ok (.aload_n 0, 1) := dk_42 (dk_at dksX5_leafOf_3 14 rfl rfl)
theorem dX5_leafOf_85 : decode cX5_leafOf 85 = .ok (.ldc2_w 137, 3) := dk_20 0 137 (dk_at dksX5_leafOf_3 15 rfl rfl)
theorem dX5_leafOf_88 : decode cX5_leafOf 88 = .ok (.invokevirtual 206, 3) := dk_182 0 206 (dk_at dksX5_leafOf_3 18 rfl rfl)
theorem dX5_leafOf_91 : decode cX5_leafOf 91 = .ok (.ifCond .eq 8, 3) := dk_153 0 8 (dk_at dksX5_leafOf_3 21 rfl rfl)
theorem dX5_leafOf_94 : decode cX5_leafOf 94 = .ok (.bipush 6, 2) := dk_16 6 (dk_at dksX5_leafOf_4 0 rfl rfl)
theorem dX5_leafOf_96 : decode cX5_leafOf 96 = .ok (.goto 49, 3) := dk_167 0 49 (dk_at dksX5_leafOf_4 2 rfl rfl)
theorem dX5_leafOf_99 : decode cX5_leafOf 99 = .ok (.aload_n 0, 1) := dk_42 (dk_at dksX5_leafOf_4 5 rfl rfl)
theorem dX5_leafOf_100 : decode cX5_leafOf 100 = .ok (.ldc2_w 139, 3) := dk_20 0 139 (dk_at dksX5_leafOf_4 6 rfl rfl)
theorem dX5_leafOf_103 : decode cX5_leafOf 103 = .ok (.invokevirtual 206, 3) := dk_182 0 206 (dk_at dksX5_leafOf_4 9 rfl rfl)
theorem dX5_leafOf_106 : decode cX5_leafOf 106 = .ok (.ifCond .eq 8, 3) := dk_153 0 8 (dk_at dksX5_leafOf_4 12 rfl rfl)
theorem dX5_leafOf_109 : decode cX5_leafOf 109 = .ok (.bipush 7, 2) := dk_16 7 (dk_at dksX5_leafOf_4 15 rfl rfl)
theorem dX5_leafOf_111 : decode cX5_leafOf 111 = .ok (.goto 34, 3) := dk_167 0 34 (dk_at dksX5_leafOf_4 17 rfl rfl)
theorem dX5_leafOf_114 : decode cX5_leafOf 114 = .ok (.aload_n 0, 1) := dk_42 (dk_at dksX5_leafOf_4 20 rfl rfl)
theorem dX5_leafOf_115 : decode cX5_leafOf 115 = .ok (.ldc2_w 141, 3) := dk_20 0 141 (dk_at dksX5_leafOf_4 21 rfl rfl)
theorem dX5_leafOf_118 : decode cX5_leafOf 118 = .ok (.invokevirtual 206, 3) := dk_182 0 206 (dk_at dksX5_leafOf_5 0 rfl rfl)
theorem dX5_leafOf_121 : decode cX5_leafOf 121 = .ok (.ifCond .eq 8, 3) := dk_153 0 8 (dk_at dksX5_leafOf_5 3 rfl rfl)
theorem dX5_leafOf_124 : decode cX5_leafOf 124 = .ok (.bipush 8, 2) := dk_16 8 (dk_at dksX5_leafOf_5 6 rfl rfl)
theorem dX5_leafOf_126 : decode cX5_leafOf 126 = .ok (.goto 19, 3) := dk_167 0 19 (dk_at dksX5_leafOf_5 8 rfl rfl)
theorem dX5_leafOf_129 : decode cX5_leafOf 129 = .ok (.aload_n 0, 1) := dk_42 (dk_at dksX5_leafOf_5 11 rfl rfl)
theorem dX5_leafOf_130 : decode cX5_leafOf 130 = .ok (.ldc2_w 143, 3) := dk_20 0 143 (dk_at dksX5_leafOf_5 12 rfl rfl)
theorem dX5_leafOf_133 : decode cX5_leafOf 133 = .ok (.invokevirtual 206, 3) := dk_182 0 206 (dk_at dksX5_leafOf_5 15 rfl rfl)
theorem dX5_leafOf_136 : decode cX5_leafOf 136 = .ok (.ifCond .eq 8, 3) := dk_153 0 8 (dk_at dksX5_leafOf_5 18 rfl rfl)
theorem dX5_leafOf_139 : decode cX5_leafOf 139 = .ok (.bipush 9, 2) := dk_16 9 (dk_at dksX5_leafOf_5 21 rfl rfl)
theorem dX5_leafOf_141 : decode cX5_leafOf 141 = .ok (.goto 4, 3) := dk_167 0 4 (dk_at dksX5_leafOf_6 0 rfl rfl)
theorem dX5_leafOf_144 : decode cX5_leafOf 144 = .ok (.iconst (-1), 1) := dk_2 (dk_at dksX5_leafOf_6 3 rfl rfl)
theorem dX5_leafOf_145 : decode cX5_leafOf 145 = .ok (.ireturn, 1) := dk_172 (dk_at dksX5_leafOf_6 4 rfl rfl)
abbrev cX5_said : ByteArray := prog_26_method_114_code
def yX5_said : MethodName := ⟨RX5, "said", "(I)I"⟩
def dkwX5_said_3 : List UInt8 := [28, 167, 0, 4, 2, 172]
abbrev dktX5_said_3 : List UInt8 := dkwX5_said_3 ++ []
def dkwX5_said_2 : List UInt8 := [167, 0, 13, 28, 27, 160, 0, 5, 29, 172, 132, 2, 1, 132, 3, 1, 167, 255, 221, 27, 2, 160, 0, 7]
abbrev dktX5_said_2 : List UInt8 := dkwX5_said_2 ++ dktX5_said_3
def dkwX5_said_1 : List UInt8 := [61, 3, 62, 29, 42, 180, 0, 33, 16, 6, 46, 162, 0, 30, 42, 29, 182, 1, 195, 154, 0, 6]
abbrev dktX5_said_1 : List UInt8 := dkwX5_said_1 ++ dktX5_said_2
def dkwX5_said_0 : List UInt8 := [42, 3, 181, 0, 1, 42, 180, 0, 33, 17, 1, 220, 46, 153, 0, 8, 27, 2, 162, 0, 5, 2, 172, 3]
abbrev dktX5_said_0 : List UInt8 := dkwX5_said_0 ++ dktX5_said_1
theorem dksX5_said_0 : cX5_said.data.toList.drop 0 = dktX5_said_0 := by decide +kernel
theorem dksX5_said_1 : cX5_said.data.toList.drop 24 = dktX5_said_1 := dk_seg dksX5_said_0 24 rfl rfl
theorem dksX5_said_2 : cX5_said.data.toList.drop 46 = dktX5_said_2 := dk_seg dksX5_said_1 22 rfl rfl
theorem dksX5_said_3 : cX5_said.data.toList.drop 70 = dktX5_said_3 := dk_seg dksX5_said_2 24 rfl rfl
theorem dX5_said_0 : decode cX5_said 0 = .ok (.aload_n 0, 1) := dk_42 (dk_at dksX5_said_0 0 rfl rfl)
theorem dX5_said_1 : decode cX5_said 1 = .ok (.iconst 0, 1) := dk_3 (dk_at dksX5_said_0 1 rfl rfl)
theorem dX5_said_2 : decode cX5_said 2 = .ok (.putfield 1, 3) := dk_181 0 1 (dk_at dksX5_said_0 2 rfl rfl)
theorem dX5_said_5 : decode cX5_said 5 = .ok (.aload_n 0, 1) := dk_42 (dk_at dksX5_said_0 5 rfl rfl)
theorem dX5_said_6 : decode cX5_said 6 = .ok (.getfield 33, 3) := dk_180 0 33 (dk_at dksX5_said_0 6 rfl rfl)
theorem dX5_said_9 : decode cX5_said 9 = .ok (.sipush 476, 3) := dk_17 1 220 (dk_at dksX5_said_0 9 rfl rfl)
theorem dX5_said_12 : decode cX5_said 12 = .ok (.iaload, 1) := dk_46 (dk_at dksX5_said_0 12 rfl rfl)
theorem dX5_said_13 : decode cX5_said 13 = .ok (.ifCond .eq 8, 3) := dk_153 0 8 (dk_at dksX5_said_0 13 rfl rfl)
theorem dX5_said_16 : decode cX5_said 16 = .ok (.iload_n 1, 1) := dk_27 (dk_at dksX5_said_0 16 rfl rfl)
theorem dX5_said_17 : decode cX5_said 17 = .ok (.iconst (-1), 1) := dk_2 (dk_at dksX5_said_0 17 rfl rfl)
theorem dX5_said_18 : decode cX5_said 18 = .ok (.if_icmp .ge 5, 3) := dk_162 0 5 (dk_at dksX5_said_0 18 rfl rfl)
theorem dX5_said_21 : decode cX5_said 21 = .ok (.iconst (-1), 1) := dk_2 (dk_at dksX5_said_0 21 rfl rfl)
theorem dX5_said_22 : decode cX5_said 22 = .ok (.ireturn, 1) := dk_172 (dk_at dksX5_said_0 22 rfl rfl)
theorem dX5_said_23 : decode cX5_said 23 = .ok (.iconst 0, 1) := dk_3 (dk_at dksX5_said_0 23 rfl rfl)
theorem dX5_said_24 : decode cX5_said 24 = .ok (.istore_n 2, 1) := dk_61 (dk_at dksX5_said_1 0 rfl rfl)
theorem dX5_said_25 : decode cX5_said 25 = .ok (.iconst 0, 1) := dk_3 (dk_at dksX5_said_1 1 rfl rfl)
theorem dX5_said_26 : decode cX5_said 26 = .ok (.istore_n 3, 1) := dk_62 (dk_at dksX5_said_1 2 rfl rfl)
theorem dX5_said_27 : decode cX5_said 27 = .ok (.iload_n 3, 1) := dk_29 (dk_at dksX5_said_1 3 rfl rfl)
theorem dX5_said_28 : decode cX5_said 28 = .ok (.aload_n 0, 1) := dk_42 (dk_at dksX5_said_1 4 rfl rfl)
theorem dX5_said_29 : decode cX5_said 29 = .ok (.getfield 33, 3) := dk_180 0 33 (dk_at dksX5_said_1 5 rfl rfl)
theorem dX5_said_32 : decode cX5_said 32 = .ok (.bipush 6, 2) := dk_16 6 (dk_at dksX5_said_1 8 rfl rfl)
theorem dX5_said_34 : decode cX5_said 34 = .ok (.iaload, 1) := dk_46 (dk_at dksX5_said_1 10 rfl rfl)
theorem dX5_said_35 : decode cX5_said 35 = .ok (.if_icmp .ge 30, 3) := dk_162 0 30 (dk_at dksX5_said_1 11 rfl rfl)
theorem dX5_said_38 : decode cX5_said 38 = .ok (.aload_n 0, 1) := dk_42 (dk_at dksX5_said_1 14 rfl rfl)
theorem dX5_said_39 : decode cX5_said 39 = .ok (.iload_n 3, 1) := dk_29 (dk_at dksX5_said_1 15 rfl rfl)
theorem dX5_said_40 : decode cX5_said 40 = .ok (.invokevirtual 451, 3) := dk_182 1 195 (dk_at dksX5_said_1 16 rfl rfl)
theorem dX5_said_43 : decode cX5_said 43 = .ok (.ifCond .ne 6, 3) := dk_154 0 6 (dk_at dksX5_said_1 19 rfl rfl)
theorem dX5_said_46 : decode cX5_said 46 = .ok (.goto 13, 3) := dk_167 0 13 (dk_at dksX5_said_2 0 rfl rfl)
theorem dX5_said_49 : decode cX5_said 49 = .ok (.iload_n 2, 1) := dk_28 (dk_at dksX5_said_2 3 rfl rfl)
theorem dX5_said_50 : decode cX5_said 50 = .ok (.iload_n 1, 1) := dk_27 (dk_at dksX5_said_2 4 rfl rfl)
theorem dX5_said_51 : decode cX5_said 51 = .ok (.if_icmp .ne 5, 3) := dk_160 0 5 (dk_at dksX5_said_2 5 rfl rfl)
theorem dX5_said_54 : decode cX5_said 54 = .ok (.iload_n 3, 1) := dk_29 (dk_at dksX5_said_2 8 rfl rfl)
theorem dX5_said_55 : decode cX5_said 55 = .ok (.ireturn, 1) := dk_172 (dk_at dksX5_said_2 9 rfl rfl)
theorem dX5_said_56 : decode cX5_said 56 = .ok (.iinc 2 1, 3) := dk_132 2 1 (dk_at dksX5_said_2 10 rfl rfl)
theorem dX5_said_59 : decode cX5_said 59 = .ok (.iinc 3 1, 3) := dk_132 3 1 (dk_at dksX5_said_2 13 rfl rfl)
theorem dX5_said_62 : decode cX5_said 62 = .ok (.goto (-35), 3) := dk_167 255 221 (dk_at dksX5_said_2 16 rfl rfl)
theorem dX5_said_65 : decode cX5_said 65 = .ok (.iload_n 1, 1) := dk_27 (dk_at dksX5_said_2 19 rfl rfl)
theorem dX5_said_66 : decode cX5_said 66 = .ok (.iconst (-1), 1) := dk_2 (dk_at dksX5_said_2 20 rfl rfl)
theorem dX5_said_67 : decode cX5_said 67 = .ok (.if_icmp .ne 7, 3) := dk_160 0 7 (dk_at dksX5_said_2 21 rfl rfl)
theorem dX5_said_70 : decode cX5_said 70 = .ok (.iload_n 2, 1) := dk_28 (dk_at dksX5_said_3 0 rfl rfl)
theorem dX5_said_71 : decode cX5_said 71 = .ok (.goto 4, 3) := dk_167 0 4 (dk_at dksX5_said_3 1 rfl rfl)
theorem dX5_said_74 : decode cX5_said 74 = .ok (.iconst (-1), 1) := dk_2 (dk_at dksX5_said_3 4 rfl rfl)
theorem dX5_said_75 : decode cX5_said 75 = .ok (.ireturn, 1) := dk_172 (dk_at dksX5_said_3 5 rfl rfl)
abbrev cX5_isSaid : ByteArray := prog_26_method_113_code
def yX5_isSaid : MethodName := ⟨RX5, "isSaid", "(I)Z"⟩
def dkwX5_isSaid_9 : List UInt8 := [167, 255, 51, 42, 180, 0, 78, 3, 51, 172]
abbrev dktX5_isSaid_9 : List UInt8 := dkwX5_isSaid_9 ++ []
def dkwX5_isSaid_8 : List UInt8 := [4, 96, 46, 42, 180, 0, 33, 21, 4, 5, 96, 46, 182, 1, 191, 84, 132, 2, 1, 132, 3, 1]
abbrev dktX5_isSaid_8 : List UInt8 := dkwX5_isSaid_8 ++ dktX5_isSaid_9
def dkwX5_isSaid_7 : List UInt8 := [84, 167, 0, 42, 42, 180, 0, 78, 28, 42, 27, 42, 180, 0, 33, 21, 4, 46, 42, 180, 0, 33, 21, 4]
abbrev dktX5_isSaid_7 : List UInt8 := dkwX5_isSaid_7 ++ dktX5_isSaid_8
def dkwX5_isSaid_6 : List UInt8 := [180, 0, 78, 28, 4, 100, 51, 154, 0, 12, 42, 180, 0, 78, 28, 51, 153, 0, 7, 4, 167, 0, 4, 3]
abbrev dktX5_isSaid_6 : List UInt8 := dkwX5_isSaid_6 ++ dktX5_isSaid_7
def dkwX5_isSaid_5 : List UInt8 := [100, 51, 153, 0, 16, 42, 180, 0, 78, 28, 51, 153, 0, 7, 4, 167, 0, 32, 3, 167, 0, 28, 42]
abbrev dktX5_isSaid_5 : List UInt8 := dkwX5_isSaid_5 ++ dktX5_isSaid_6
def dkwX5_isSaid_4 : List UInt8 := [180, 0, 78, 28, 4, 100, 42, 180, 0, 33, 21, 4, 46, 16, 21, 160, 0, 31, 42, 180, 0, 78, 28, 4]
abbrev dktX5_isSaid_4 : List UInt8 := dkwX5_isSaid_4 ++ dktX5_isSaid_5
def dkwX5_isSaid_3 : List UInt8 := [21, 4, 46, 16, 21, 159, 0, 15, 42, 180, 0, 33, 21, 4, 46, 16, 22, 160, 0, 82, 132, 2, 255, 42]
abbrev dktX5_isSaid_3 : List UInt8 := dkwX5_isSaid_3 ++ dktX5_isSaid_4
def dkwX5_isSaid_2 : List UInt8 := [180, 0, 78, 28, 4, 100, 51, 154, 0, 7, 4, 167, 0, 4, 3, 84, 167, 0, 145, 42, 180, 0, 33]
abbrev dktX5_isSaid_2 : List UInt8 := dkwX5_isSaid_2 ++ dktX5_isSaid_3
def dkwX5_isSaid_1 : List UInt8 := [54, 4, 42, 180, 0, 33, 21, 4, 46, 16, 20, 160, 0, 30, 42, 180, 0, 78, 28, 4, 100, 42]
abbrev dktX5_isSaid_1 : List UInt8 := dkwX5_isSaid_1 ++ dktX5_isSaid_2
def dkwX5_isSaid_0 : List UInt8 := [3, 61, 3, 62, 29, 42, 180, 0, 33, 17, 1, 220, 46, 162, 0, 199, 17, 1, 221, 6, 29, 104, 96]
abbrev dktX5_isSaid_0 : List UInt8 := dkwX5_isSaid_0 ++ dktX5_isSaid_1
theorem dksX5_isSaid_0 : cX5_isSaid.data.toList.drop 0 = dktX5_isSaid_0 := by decide +kernel
theorem dksX5_isSaid_1 : cX5_isSaid.data.toList.drop 23 = dktX5_isSaid_1 := dk_seg dksX5_isSaid_0 23 rfl rfl
theorem dksX5_isSaid_2 : cX5_isSaid.data.toList.drop 45 = dktX5_isSaid_2 := dk_seg dksX5_isSaid_1 22 rfl rfl
theorem dksX5_isSaid_3 : cX5_isSaid.data.toList.drop 68 = dktX5_isSaid_3 := dk_seg dksX5_isSaid_2 23 rfl rfl
theorem dksX5_isSaid_4 : cX5_isSaid.data.toList.drop 92 = dktX5_isSaid_4 := dk_seg dksX5_isSaid_3 24 rfl rfl
theorem dksX5_isSaid_5 : cX5_isSaid.data.toList.drop 116 = dktX5_isSaid_5 := dk_seg dksX5_isSaid_4 24 rfl rfl
theorem dksX5_isSaid_6 : cX5_isSaid.data.toList.drop 139 = dktX5_isSaid_6 := dk_seg dksX5_isSaid_5 23 rfl rfl
theorem dksX5_isSaid_7 : cX5_isSaid.data.toList.drop 163 = dktX5_isSaid_7 := dk_seg dksX5_isSaid_6 24 rfl rfl
theorem dksX5_isSaid_8 : cX5_isSaid.data.toList.drop 187 = dktX5_isSaid_8 := dk_seg dksX5_isSaid_7 24 rfl rfl
theorem dksX5_isSaid_9 : cX5_isSaid.data.toList.drop 209 = dktX5_isSaid_9 := dk_seg dksX5_isSaid_8 22 rfl rfl
theorem dX5_isSaid_0 : decode cX5_isSaid 0 = .ok (.iconst 0, 1) := dk_3 (dk_at dksX5_isSaid_0 0 rfl rfl)
theorem dX5_isSaid_1 : decode cX5_isSaid 1 = .ok (.istore_n 2, 1) := dk_61 (dk_at dksX5_isSaid_0 1 rfl rfl)
theorem dX5_isSaid_2 : decode cX5_isSaid 2 = .ok (.iconst 0, 1) := dk_3 (dk_at dksX5_isSaid_0 2 rfl rfl)
theorem dX5_isSaid_3 : decode cX5_isSaid 3 = .ok (.istore_n 3, 1) := dk_62 (dk_at dksX5_isSaid_0 3 rfl rfl)
theorem dX5_isSaid_4 : decode cX5_isSaid 4 = .ok (.iload_n 3, 1) := dk_29 (dk_at dksX5_isSaid_0 4 rfl rfl)
theorem dX5_isSaid_5 : decode cX5_isSaid 5 = .ok (.aload_n 0, 1) := dk_42 (dk_at dksX5_isSaid_0 5 rfl rfl)
theorem dX5_isSaid_6 : decode cX5_isSaid 6 = .ok (.getfield 33, 3) := dk_180 0 33 (dk_at dksX5_isSaid_0 6 rfl rfl)
theorem dX5_isSaid_9 : decode cX5_isSaid 9 = .ok (.sipush 476, 3) := dk_17 1 220 (dk_at dksX5_isSaid_0 9 rfl rfl)
theorem dX5_isSaid_12 : decode cX5_isSaid 12 = .ok (.iaload, 1) := dk_46 (dk_at dksX5_isSaid_0 12 rfl rfl)
theorem dX5_isSaid_13 : decode cX5_isSaid 13 = .ok (.if_icmp .ge 199, 3) := dk_162 0 199 (dk_at dksX5_isSaid_0 13 rfl rfl)
theorem dX5_isSaid_16 : decode cX5_isSaid 16 = .ok (.sipush 477, 3) := dk_17 1 221 (dk_at dksX5_isSaid_0 16 rfl rfl)
theorem dX5_isSaid_19 : decode cX5_isSaid 19 = .ok (.iconst 3, 1) := dk_6 (dk_at dksX5_isSaid_0 19 rfl rfl)
theorem dX5_isSaid_20 : decode cX5_isSaid 20 = .ok (.iload_n 3, 1) := dk_29 (dk_at dksX5_isSaid_0 20 rfl rfl)
theorem dX5_isSaid_21 : decode cX5_isSaid 21 = .ok (.imul, 1) := dk_104 (dk_at dksX5_isSaid_0 21 rfl rfl)
theorem dX5_isSaid_22 : decode cX5_isSaid 22 = .ok (.iadd, 1) := dk_96 (dk_at dksX5_isSaid_0 22 rfl rfl)
theorem dX5_isSaid_23 : decode cX5_isSaid 23 = .ok (.istore 4, 2) := dk_54 4 (dk_at dksX5_isSaid_1 0 rfl rfl)
theorem dX5_isSaid_25 : decode cX5_isSaid 25 = .ok (.aload_n 0, 1) := dk_42 (dk_at dksX5_isSaid_1 2 rfl rfl)
theorem dX5_isSaid_26 : decode cX5_isSaid 26 = .ok (.getfield 33, 3) := dk_180 0 33 (dk_at dksX5_isSaid_1 3 rfl rfl)
theorem dX5_isSaid_29 : decode cX5_isSaid 29 = .ok (.iload 4, 2) := dk_21 4 (dk_at dksX5_isSaid_1 6 rfl rfl)
theorem dX5_isSaid_31 : decode cX5_isSaid 31 = .ok (.iaload, 1) := dk_46 (dk_at dksX5_isSaid_1 8 rfl rfl)
theorem dX5_isSaid_32 : decode cX5_isSaid 32 = .ok (.bipush 20, 2) := dk_16 20 (dk_at dksX5_isSaid_1 9 rfl rfl)
theorem dX5_isSaid_34 : decode cX5_isSaid 34 = .ok (.if_icmp .ne 30, 3) := dk_160 0 30 (dk_at dksX5_isSaid_1 11 rfl rfl)
theorem dX5_isSaid_37 : decode cX5_isSaid 37 = .ok (.aload_n 0, 1) := dk_42 (dk_at dksX5_isSaid_1 14 rfl rfl)
theorem dX5_isSaid_38 : decode cX5_isSaid 38 = .ok (.getfield 78, 3) := dk_180 0 78 (dk_at dksX5_isSaid_1 15 rfl rfl)
theorem dX5_isSaid_41 : decode cX5_isSaid 41 = .ok (.iload_n 2, 1) := dk_28 (dk_at dksX5_isSaid_1 18 rfl rfl)
theorem dX5_isSaid_42 : decode cX5_isSaid 42 = .ok (.iconst 1, 1) := dk_4 (dk_at dksX5_isSaid_1 19 rfl rfl)
theorem dX5_isSaid_43 : decode cX5_isSaid 43 = .ok (.isub, 1) := dk_100 (dk_at dksX5_isSaid_1 20 rfl rfl)
theorem dX5_isSaid_44 : decode cX5_isSaid 44 = .ok (.aload_n 0, 1) := dk_42 (dk_at dksX5_isSaid_1 21 rfl rfl)
theorem dX5_isSaid_45 : decode cX5_isSaid 45 = .ok (.getfield 78, 3) := dk_180 0 78 (dk_at dksX5_isSaid_2 0 rfl rfl)
theorem dX5_isSaid_48 : decode cX5_isSaid 48 = .ok (.iload_n 2, 1) := dk_28 (dk_at dksX5_isSaid_2 3 rfl rfl)
theorem dX5_isSaid_49 : decode cX5_isSaid 49 = .ok (.iconst 1, 1) := dk_4 (dk_at dksX5_isSaid_2 4 rfl rfl)
theorem dX5_isSaid_50 : decode cX5_isSaid 50 = .ok (.isub, 1) := dk_100 (dk_at dksX5_isSaid_2 5 rfl rfl)
theorem dX5_isSaid_51 : decode cX5_isSaid 51 = .ok (.baload, 1) := dk_51 (dk_at dksX5_isSaid_2 6 rfl rfl)
theorem dX5_isSaid_52 : decode cX5_isSaid 52 = .ok (.ifCond .ne 7, 3) := dk_154 0 7 (dk_at dksX5_isSaid_2 7 rfl rfl)
theorem dX5_isSaid_55 : decode cX5_isSaid 55 = .ok (.iconst 1, 1) := dk_4 (dk_at dksX5_isSaid_2 10 rfl rfl)
theorem dX5_isSaid_56 : decode cX5_isSaid 56 = .ok (.goto 4, 3) := dk_167 0 4 (dk_at dksX5_isSaid_2 11 rfl rfl)
theorem dX5_isSaid_59 : decode cX5_isSaid 59 = .ok (.iconst 0, 1) := dk_3 (dk_at dksX5_isSaid_2 14 rfl rfl)
theorem dX5_isSaid_60 : decode cX5_isSaid 60 = .ok (.bastore, 1) := dk_84 (dk_at dksX5_isSaid_2 15 rfl rfl)
theorem dX5_isSaid_61 : decode cX5_isSaid 61 = .ok (.goto 145, 3) := dk_167 0 145 (dk_at dksX5_isSaid_2 16 rfl rfl)
theorem dX5_isSaid_64 : decode cX5_isSaid 64 = .ok (.aload_n 0, 1) := dk_42 (dk_at dksX5_isSaid_2 19 rfl rfl)
theorem dX5_isSaid_65 : decode cX5_isSaid 65 = .ok (.getfield 33, 3) := dk_180 0 33 (dk_at dksX5_isSaid_2 20 rfl rfl)
theorem dX5_isSaid_68 : decode cX5_isSaid 68 = .ok (.iload 4, 2) := dk_21 4 (dk_at dksX5_isSaid_3 0 rfl rfl)
theorem dX5_isSaid_70 : decode cX5_isSaid 70 = .ok (.iaload, 1) := dk_46 (dk_at dksX5_isSaid_3 2 rfl rfl)
theorem dX5_isSaid_71 : decode cX5_isSaid 71 = .ok (.bipush 21, 2) := dk_16 21 (dk_at dksX5_isSaid_3 3 rfl rfl)
theorem dX5_isSaid_73 : decode cX5_isSaid 73 = .ok (.if_icmp .eq 15, 3) := dk_159 0 15 (dk_at dksX5_isSaid_3 5 rfl rfl)
theorem dX5_isSaid_76 : decode cX5_isSaid 76 = .ok (.aload_n 0, 1) := dk_42 (dk_at dksX5_isSaid_3 8 rfl rfl)
theorem dX5_isSaid_77 : decode cX5_isSaid 77 = .ok (.getfield 33, 3) := dk_180 0 33 (dk_at dksX5_isSaid_3 9 rfl rfl)
theorem dX5_isSaid_80 : decode cX5_isSaid 80 = .ok (.iload 4, 2) := dk_21 4 (dk_at dksX5_isSaid_3 12 rfl rfl)
theorem dX5_isSaid_82 : decode cX5_isSaid 82 = .ok (.iaload, 1) := dk_46 (dk_at dksX5_isSaid_3 14 rfl rfl)
theorem dX5_isSaid_83 : decode cX5_isSaid 83 = .ok (.bipush 22, 2) := dk_16 22 (dk_at dksX5_isSaid_3 15 rfl rfl)
theorem dX5_isSaid_85 : decode cX5_isSaid 85 = .ok (.if_icmp .ne 82, 3) := dk_160 0 82 (dk_at dksX5_isSaid_3 17 rfl rfl)
theorem dX5_isSaid_88 : decode cX5_isSaid 88 = .ok (.iinc 2 (-1), 3) := dk_132 2 255 (dk_at dksX5_isSaid_3 20 rfl rfl)
theorem dX5_isSaid_91 : decode cX5_isSaid 91 = .ok (.aload_n 0, 1) := dk_42 (dk_at dksX5_isSaid_3 23 rfl rfl)
theorem dX5_isSaid_92 : decode cX5_isSaid 92 = .ok (.getfield 78, 3) := dk_180 0 78 (dk_at dksX5_isSaid_4 0 rfl rfl)
theorem dX5_isSaid_95 : decode cX5_isSaid 95 = .ok (.iload_n 2, 1) := dk_28 (dk_at dksX5_isSaid_4 3 rfl rfl)
theorem dX5_isSaid_96 : decode cX5_isSaid 96 = .ok (.iconst 1, 1) := dk_4 (dk_at dksX5_isSaid_4 4 rfl rfl)
theorem dX5_isSaid_97 : decode cX5_isSaid 97 = .ok (.isub, 1) := dk_100 (dk_at dksX5_isSaid_4 5 rfl rfl)
theorem dX5_isSaid_98 : decode cX5_isSaid 98 = .ok (.aload_n 0, 1) := dk_42 (dk_at dksX5_isSaid_4 6 rfl rfl)
theorem dX5_isSaid_99 : decode cX5_isSaid 99 = .ok (.getfield 33, 3) := dk_180 0 33 (dk_at dksX5_isSaid_4 7 rfl rfl)
theorem dX5_isSaid_102 : decode cX5_isSaid 102 = .ok (.iload 4, 2) := dk_21 4 (dk_at dksX5_isSaid_4 10 rfl rfl)
theorem dX5_isSaid_104 : decode cX5_isSaid 104 = .ok (.iaload, 1) := dk_46 (dk_at dksX5_isSaid_4 12 rfl rfl)
theorem dX5_isSaid_105 : decode cX5_isSaid 105 = .ok (.bipush 21, 2) := dk_16 21 (dk_at dksX5_isSaid_4 13 rfl rfl)
theorem dX5_isSaid_107 : decode cX5_isSaid 107 = .ok (.if_icmp .ne 31, 3) := dk_160 0 31 (dk_at dksX5_isSaid_4 15 rfl rfl)
theorem dX5_isSaid_110 : decode cX5_isSaid 110 = .ok (.aload_n 0, 1) := dk_42 (dk_at dksX5_isSaid_4 18 rfl rfl)
theorem dX5_isSaid_111 : decode cX5_isSaid 111 = .ok (.getfield 78, 3) := dk_180 0 78 (dk_at dksX5_isSaid_4 19 rfl rfl)
theorem dX5_isSaid_114 : decode cX5_isSaid 114 = .ok (.iload_n 2, 1) := dk_28 (dk_at dksX5_isSaid_4 22 rfl rfl)
theorem dX5_isSaid_115 : decode cX5_isSaid 115 = .ok (.iconst 1, 1) := dk_4 (dk_at dksX5_isSaid_4 23 rfl rfl)
theorem dX5_isSaid_116 : decode cX5_isSaid 116 = .ok (.isub, 1) := dk_100 (dk_at dksX5_isSaid_5 0 rfl rfl)
theorem dX5_isSaid_117 : decode cX5_isSaid 117 = .ok (.baload, 1) := dk_51 (dk_at dksX5_isSaid_5 1 rfl rfl)
theorem dX5_isSaid_118 : decode cX5_isSaid 118 = .ok (.ifCond .eq 16, 3) := dk_153 0 16 (dk_at dksX5_isSaid_5 2 rfl rfl)
theorem dX5_isSaid_121 : decode cX5_isSaid 121 = .ok (.aload_n 0, 1) := dk_42 (dk_at dksX5_isSaid_5 5 rfl rfl)
theorem dX5_isSaid_122 : decode cX5_isSaid 122 = .ok (.getfield 78, 3) := dk_180 0 78 (dk_at dksX5_isSaid_5 6 rfl rfl)
theorem dX5_isSaid_125 : decode cX5_isSaid 125 = .ok (.iload_n 2, 1) := dk_28 (dk_at dksX5_isSaid_5 9 rfl rfl)
theorem dX5_isSaid_126 : decode cX5_isSaid 126 = .ok (.baload, 1) := dk_51 (dk_at dksX5_isSaid_5 10 rfl rfl)
theorem dX5_isSaid_127 : decode cX5_isSaid 127 = .ok (.ifCond .eq 7, 3) := dk_153 0 7 (dk_at dksX5_isSaid_5 11 rfl rfl)
theorem dX5_isSaid_130 : decode cX5_isSaid 130 = .ok (.iconst 1, 1) := dk_4 (dk_at dksX5_isSaid_5 14 rfl rfl)
theorem dX5_isSaid_131 : decode cX5_isSaid 131 = .ok (.goto 32, 3) := dk_167 0 32 (dk_at dksX5_isSaid_5 15 rfl rfl)
theorem dX5_isSaid_134 : decode cX5_isSaid 134 = .ok (.iconst 0, 1) := dk_3 (dk_at dksX5_isSaid_5 18 rfl rfl)
theorem dX5_isSaid_135 : decode cX5_isSaid 135 = .ok (.goto 28, 3) := dk_167 0 28 (dk_at dksX5_isSaid_5 19 rfl rfl)
theorem dX5_isSaid_138 : decode cX5_isSaid 138 = .ok (.aload_n 0, 1) := dk_42 (dk_at dksX5_isSaid_5 22 rfl rfl)
theorem dX5_isSaid_139 : decode cX5_isSaid 139 = .ok (.getfield 78, 3) := dk_180 0 78 (dk_at dksX5_isSaid_6 0 rfl rfl)
theorem dX5_isSaid_142 : decode cX5_isSaid 142 = .ok (.iload_n 2, 1) := dk_28 (dk_at dksX5_isSaid_6 3 rfl rfl)
theorem dX5_isSaid_143 : decode cX5_isSaid 143 = .ok (.iconst 1, 1) := dk_4 (dk_at dksX5_isSaid_6 4 rfl rfl)
theorem dX5_isSaid_144 : decode cX5_isSaid 144 = .ok (.isub, 1) := dk_100 (dk_at dksX5_isSaid_6 5 rfl rfl)
theorem dX5_isSaid_145 : decode cX5_isSaid 145 = .ok (.baload, 1) := dk_51 (dk_at dksX5_isSaid_6 6 rfl rfl)
theorem dX5_isSaid_146 : decode cX5_isSaid 146 = .ok (.ifCond .ne 12, 3) := dk_154 0 12 (dk_at dksX5_isSaid_6 7 rfl rfl)
theorem dX5_isSaid_149 : decode cX5_isSaid 149 = .ok (.aload_n 0, 1) := dk_42 (dk_at dksX5_isSaid_6 10 rfl rfl)
theorem dX5_isSaid_150 : decode cX5_isSaid 150 = .ok (.getfield 78, 3) := dk_180 0 78 (dk_at dksX5_isSaid_6 11 rfl rfl)
theorem dX5_isSaid_153 : decode cX5_isSaid 153 = .ok (.iload_n 2, 1) := dk_28 (dk_at dksX5_isSaid_6 14 rfl rfl)
theorem dX5_isSaid_154 : decode cX5_isSaid 154 = .ok (.baload, 1) := dk_51 (dk_at dksX5_isSaid_6 15 rfl rfl)
theorem dX5_isSaid_155 : decode cX5_isSaid 155 = .ok (.ifCond .eq 7, 3) := dk_153 0 7 (dk_at dksX5_isSaid_6 16 rfl rfl)
theorem dX5_isSaid_158 : decode cX5_isSaid 158 = .ok (.iconst 1, 1) := dk_4 (dk_at dksX5_isSaid_6 19 rfl rfl)
theorem dX5_isSaid_159 : decode cX5_isSaid 159 = .ok (.goto 4, 3) := dk_167 0 4 (dk_at dksX5_isSaid_6 20 rfl rfl)
theorem dX5_isSaid_162 : decode cX5_isSaid 162 = .ok (.iconst 0, 1) := dk_3 (dk_at dksX5_isSaid_6 23 rfl rfl)
theorem dX5_isSaid_163 : decode cX5_isSaid 163 = .ok (.bastore, 1) := dk_84 (dk_at dksX5_isSaid_7 0 rfl rfl)
theorem dX5_isSaid_164 : decode cX5_isSaid 164 = .ok (.goto 42, 3) := dk_167 0 42 (dk_at dksX5_isSaid_7 1 rfl rfl)
theorem dX5_isSaid_167 : decode cX5_isSaid 167 = .ok (.aload_n 0, 1) := dk_42 (dk_at dksX5_isSaid_7 4 rfl rfl)
theorem dX5_isSaid_168 : decode cX5_isSaid 168 = .ok (.getfield 78, 3) := dk_180 0 78 (dk_at dksX5_isSaid_7 5 rfl rfl)
theorem dX5_isSaid_171 : decode cX5_isSaid 171 = .ok (.iload_n 2, 1) := dk_28 (dk_at dksX5_isSaid_7 8 rfl rfl)
theorem dX5_isSaid_172 : decode cX5_isSaid 172 = .ok (.aload_n 0, 1) := dk_42 (dk_at dksX5_isSaid_7 9 rfl rfl)
theorem dX5_isSaid_173 : decode cX5_isSaid 173 = .ok (.iload_n 1, 1) := dk_27 (dk_at dksX5_isSaid_7 10 rfl rfl)
theorem dX5_isSaid_174 : decode cX5_isSaid 174 = .ok (.aload_n 0, 1) := dk_42 (dk_at dksX5_isSaid_7 11 rfl rfl)
theorem dX5_isSaid_175 : decode cX5_isSaid 175 = .ok (.getfield 33, 3) := dk_180 0 33 (dk_at dksX5_isSaid_7 12 rfl rfl)
theorem dX5_isSaid_178 : decode cX5_isSaid 178 = .ok (.iload 4, 2) := dk_21 4 (dk_at dksX5_isSaid_7 15 rfl rfl)
theorem dX5_isSaid_180 : decode cX5_isSaid 180 = .ok (.iaload, 1) := dk_46 (dk_at dksX5_isSaid_7 17 rfl rfl)
theorem dX5_isSaid_181 : decode cX5_isSaid 181 = .ok (.aload_n 0, 1) := dk_42 (dk_at dksX5_isSaid_7 18 rfl rfl)
theorem dX5_isSaid_182 : decode cX5_isSaid 182 = .ok (.getfield 33, 3) := dk_180 0 33 (dk_at dksX5_isSaid_7 19 rfl rfl)
theorem dX5_isSaid_185 : decode cX5_isSaid 185 = .ok (.iload 4, 2) := dk_21 4 (dk_at dksX5_isSaid_7 22 rfl rfl)
theorem dX5_isSaid_187 : decode cX5_isSaid 187 = .ok (.iconst 1, 1) := dk_4 (dk_at dksX5_isSaid_8 0 rfl rfl)
theorem dX5_isSaid_188 : decode cX5_isSaid 188 = .ok (.iadd, 1) := dk_96 (dk_at dksX5_isSaid_8 1 rfl rfl)
theorem dX5_isSaid_189 : decode cX5_isSaid 189 = .ok (.iaload, 1) := dk_46 (dk_at dksX5_isSaid_8 2 rfl rfl)
theorem dX5_isSaid_190 : decode cX5_isSaid 190 = .ok (.aload_n 0, 1) := dk_42 (dk_at dksX5_isSaid_8 3 rfl rfl)
theorem dX5_isSaid_191 : decode cX5_isSaid 191 = .ok (.getfield 33, 3) := dk_180 0 33 (dk_at dksX5_isSaid_8 4 rfl rfl)
theorem dX5_isSaid_194 : decode cX5_isSaid 194 = .ok (.iload 4, 2) := dk_21 4 (dk_at dksX5_isSaid_8 7 rfl rfl)
theorem dX5_isSaid_196 : decode cX5_isSaid 196 = .ok (.iconst 2, 1) := dk_5 (dk_at dksX5_isSaid_8 9 rfl rfl)
theorem dX5_isSaid_197 : decode cX5_isSaid 197 = .ok (.iadd, 1) := dk_96 (dk_at dksX5_isSaid_8 10 rfl rfl)
theorem dX5_isSaid_198 : decode cX5_isSaid 198 = .ok (.iaload, 1) := dk_46 (dk_at dksX5_isSaid_8 11 rfl rfl)
theorem dX5_isSaid_199 : decode cX5_isSaid 199 = .ok (.invokevirtual 447, 3) := dk_182 1 191 (dk_at dksX5_isSaid_8 12 rfl rfl)
theorem dX5_isSaid_202 : decode cX5_isSaid 202 = .ok (.bastore, 1) := dk_84 (dk_at dksX5_isSaid_8 15 rfl rfl)
theorem dX5_isSaid_203 : decode cX5_isSaid 203 = .ok (.iinc 2 1, 3) := dk_132 2 1 (dk_at dksX5_isSaid_8 16 rfl rfl)
theorem dX5_isSaid_206 : decode cX5_isSaid 206 = .ok (.iinc 3 1, 3) := dk_132 3 1 (dk_at dksX5_isSaid_8 19 rfl rfl)
theorem dX5_isSaid_209 : decode cX5_isSaid 209 = .ok (.goto (-205), 3) := dk_167 255 51 (dk_at dksX5_isSaid_9 0 rfl rfl)
theorem dX5_isSaid_212 : decode cX5_isSaid 212 = .ok (.aload_n 0, 1) := dk_42 (dk_at dksX5_isSaid_9 3 rfl rfl)
theorem dX5_isSaid_213 : decode cX5_isSaid 213 = .ok (.getfield 78, 3) := dk_180 0 78 (dk_at dksX5_isSaid_9 4 rfl rfl)
theorem dX5_isSaid_216 : decode cX5_isSaid 216 = .ok (.iconst 0, 1) := dk_3 (dk_at dksX5_isSaid_9 7 rfl rfl)
theorem dX5_isSaid_217 : decode cX5_isSaid 217 = .ok (.baload, 1) := dk_51 (dk_at dksX5_isSaid_9 8 rfl rfl)
theorem dX5_isSaid_218 : decode cX5_isSaid 218 = .ok (.ireturn, 1) := dk_172 (dk_at dksX5_isSaid_9 9 rfl rfl)
abbrev cX5_isLeaf : ByteArray := prog_26_method_112_code
def yX5_isLeaf : MethodName := ⟨RX5, "isLeaf", "(IIII)Z"⟩
def dkwX5_isLeaf_7 : List UInt8 := [3, 167, 0, 15, 21, 6, 21, 4, 164, 0, 7, 4, 167, 0, 4, 3, 172]
abbrev dktX5_isLeaf_7 : List UInt8 := dkwX5_isLeaf_7 ++ []
def dkwX5_isLeaf_6 : List UInt8 := [167, 0, 40, 3, 167, 0, 36, 29, 16, 61, 160, 0, 18, 21, 6, 21, 4, 160, 0, 7, 4, 167, 0, 19]
abbrev dktX5_isLeaf_6 : List UInt8 := dkwX5_isLeaf_6 ++ dktX5_isLeaf_7
def dkwX5_isLeaf_5 : List UInt8 := [96, 46, 167, 0, 4, 27, 54, 6, 29, 16, 60, 160, 0, 18, 21, 6, 21, 4, 162, 0, 7, 4]
abbrev dktX5_isLeaf_5 : List UInt8 := dkwX5_isLeaf_5 ++ dktX5_isLeaf_6
def dkwX5_isLeaf_4 : List UInt8 := [180, 0, 33, 16, 58, 27, 96, 46, 167, 0, 22, 28, 16, 8, 160, 0, 15, 42, 180, 0, 33, 16, 66, 27]
abbrev dktX5_isLeaf_4 : List UInt8 := dkwX5_isLeaf_4 ++ dktX5_isLeaf_5
def dkwX5_isLeaf_3 : List UInt8 := [160, 0, 15, 42, 180, 0, 33, 16, 50, 27, 96, 46, 167, 0, 40, 28, 16, 7, 160, 0, 15, 42]
abbrev dktX5_isLeaf_3 : List UInt8 := dkwX5_isLeaf_3 ++ dktX5_isLeaf_4
def dkwX5_isLeaf_2 : List UInt8 := [42, 180, 0, 33, 16, 26, 27, 96, 46, 21, 4, 160, 0, 7, 4, 167, 0, 4, 3, 172, 28, 16, 6]
abbrev dktX5_isLeaf_2 : List UInt8 := dkwX5_isLeaf_2 ++ dktX5_isLeaf_3
def dkwX5_isLeaf_1 : List UInt8 := [167, 0, 18, 3, 167, 0, 14, 21, 5, 28, 160, 0, 7, 4, 167, 0, 4, 3, 172, 28, 8, 160, 0, 23]
abbrev dktX5_isLeaf_1 : List UInt8 := dkwX5_isLeaf_1 ++ dktX5_isLeaf_2
def dkwX5_isLeaf_0 : List UInt8 := [42, 27, 3, 182, 1, 1, 54, 5, 28, 8, 162, 0, 32, 28, 154, 0, 16, 21, 5, 158, 0, 7, 4]
abbrev dktX5_isLeaf_0 : List UInt8 := dkwX5_isLeaf_0 ++ dktX5_isLeaf_1
theorem dksX5_isLeaf_0 : cX5_isLeaf.data.toList.drop 0 = dktX5_isLeaf_0 := by decide +kernel
theorem dksX5_isLeaf_1 : cX5_isLeaf.data.toList.drop 23 = dktX5_isLeaf_1 := dk_seg dksX5_isLeaf_0 23 rfl rfl
theorem dksX5_isLeaf_2 : cX5_isLeaf.data.toList.drop 47 = dktX5_isLeaf_2 := dk_seg dksX5_isLeaf_1 24 rfl rfl
theorem dksX5_isLeaf_3 : cX5_isLeaf.data.toList.drop 70 = dktX5_isLeaf_3 := dk_seg dksX5_isLeaf_2 23 rfl rfl
theorem dksX5_isLeaf_4 : cX5_isLeaf.data.toList.drop 92 = dktX5_isLeaf_4 := dk_seg dksX5_isLeaf_3 22 rfl rfl
theorem dksX5_isLeaf_5 : cX5_isLeaf.data.toList.drop 116 = dktX5_isLeaf_5 := dk_seg dksX5_isLeaf_4 24 rfl rfl
theorem dksX5_isLeaf_6 : cX5_isLeaf.data.toList.drop 138 = dktX5_isLeaf_6 := dk_seg dksX5_isLeaf_5 22 rfl rfl
theorem dksX5_isLeaf_7 : cX5_isLeaf.data.toList.drop 162 = dktX5_isLeaf_7 := dk_seg dksX5_isLeaf_6 24 rfl rfl
theorem dX5_isLeaf_0 : decode cX5_isLeaf 0 = .ok (.aload_n 0, 1) := dk_42 (dk_at dksX5_isLeaf_0 0 rfl rfl)
theorem dX5_isLeaf_1 : decode cX5_isLeaf 1 = .ok (.iload_n 1, 1) := dk_27 (dk_at dksX5_isLeaf_0 1 rfl rfl)
theorem dX5_isLeaf_2 : decode cX5_isLeaf 2 = .ok (.iconst 0, 1) := dk_3 (dk_at dksX5_isLeaf_0 2 rfl rfl)
theorem dX5_isLeaf_3 : decode cX5_isLeaf 3 = .ok (.invokevirtual 257, 3) := dk_182 1 1 (dk_at dksX5_isLeaf_0 3 rfl rfl)
theorem dX5_isLeaf_6 : decode cX5_isLeaf 6 = .ok (.istore 5, 2) := dk_54 5 (dk_at dksX5_isLeaf_0 6 rfl rfl)
theorem dX5_isLeaf_8 : decode cX5_isLeaf 8 = .ok (.iload_n 2, 1) := dk_28 (dk_at dksX5_isLeaf_0 8 rfl rfl)
theorem dX5_isLeaf_9 : decode cX5_isLeaf 9 = .ok (.iconst 5, 1) := dk_8 (dk_at dksX5_isLeaf_0 9 rfl rfl)
theorem dX5_isLeaf_10 : decode cX5_isLeaf 10 = .ok (.if_icmp .ge 32, 3) := dk_162 0 32 (dk_at dksX5_isLeaf_0 10 rfl rfl)
theorem dX5_isLeaf_13 : decode cX5_isLeaf 13 = .ok (.iload_n 2, 1) := dk_28 (dk_at dksX5_isLeaf_0 13 rfl rfl)
theorem dX5_isLeaf_14 : decode cX5_isLeaf 14 = .ok (.ifCond .ne 16, 3) := dk_154 0 16 (dk_at dksX5_isLeaf_0 14 rfl rfl)
theorem dX5_isLeaf_17 : decode cX5_isLeaf 17 = .ok (.iload 5, 2) := dk_21 5 (dk_at dksX5_isLeaf_0 17 rfl rfl)
theorem dX5_isLeaf_19 : decode cX5_isLeaf 19 = .ok (.ifCond .le 7, 3) := dk_158 0 7 (dk_at dksX5_isLeaf_0 19 rfl rfl)
theorem dX5_isLeaf_22 : decode cX5_isLeaf 22 = .ok (.iconst 1, 1) := dk_4 (dk_at dksX5_isLeaf_0 22 rfl rfl)
theorem dX5_isLeaf_23 : decode cX5_isLeaf 23 = .ok (.goto 18, 3) := dk_167 0 18 (dk_at dksX5_isLeaf_1 0 rfl rfl)
theorem dX5_isLeaf_26 : decode cX5_isLeaf 26 = .ok (.iconst 0, 1) := dk_3 (dk_at dksX5_isLeaf_1 3 rfl rfl)
theorem dX5_isLeaf_27 : decode cX5_isLeaf 27 = .ok (.goto 14, 3) := dk_167 0 14 (dk_at dksX5_isLeaf_1 4 rfl rfl)
theorem dX5_isLeaf_30 : decode cX5_isLeaf 30 = .ok (.iload 5, 2) := dk_21 5 (dk_at dksX5_isLeaf_1 7 rfl rfl)
theorem dX5_isLeaf_32 : decode cX5_isLeaf 32 = .ok (.iload_n 2, 1) := dk_28 (dk_at dksX5_isLeaf_1 9 rfl rfl)
theorem dX5_isLeaf_33 : decode cX5_isLeaf 33 = .ok (.if_icmp .ne 7, 3) := dk_160 0 7 (dk_at dksX5_isLeaf_1 10 rfl rfl)
theorem dX5_isLeaf_36 : decode cX5_isLeaf 36 = .ok (.iconst 1, 1) := dk_4 (dk_at dksX5_isLeaf_1 13 rfl rfl)
theorem dX5_isLeaf_37 : decode cX5_isLeaf 37 = .ok (.goto 4, 3) := dk_167 0 4 (dk_at dksX5_isLeaf_1 14 rfl rfl)
theorem dX5_isLeaf_40 : decode cX5_isLeaf 40 = .ok (.iconst 0, 1) := dk_3 (dk_at dksX5_isLeaf_1 17 rfl rfl)
theorem dX5_isLeaf_41 : decode cX5_isLeaf 41 = .ok (.ireturn, 1) := dk_172 (dk_at dksX5_isLeaf_1 18 rfl rfl)
theorem dX5_isLeaf_42 : decode cX5_isLeaf 42 = .ok (.iload_n 2, 1) := dk_28 (dk_at dksX5_isLeaf_1 19 rfl rfl)
theorem dX5_isLeaf_43 : decode cX5_isLeaf 43 = .ok (.iconst 5, 1) := dk_8 (dk_at dksX5_isLeaf_1 20 rfl rfl)
theorem dX5_isLeaf_44 : decode cX5_isLeaf 44 = .ok (.if_icmp .ne 23, 3) := dk_160 0 23 (dk_at dksX5_isLeaf_1 21 rfl rfl)
theorem dX5_isLeaf_47 : decode cX5_isLeaf 47 = .ok (.aload_n 0, 1) := dk_42 (dk_at dksX5_isLeaf_2 0 rfl rfl)
theorem dX5_isLeaf_48 : decode cX5_isLeaf 48 = .ok (.getfield 33, 3) := dk_180 0 33 (dk_at dksX5_isLeaf_2 1 rfl rfl)
theorem dX5_isLeaf_51 : decode cX5_isLeaf 51 = .ok (.bipush 26, 2) := dk_16 26 (dk_at dksX5_isLeaf_2 4 rfl rfl)
theorem dX5_isLeaf_53 : decode cX5_isLeaf 53 = .ok (.iload_n 1, 1) := dk_27 (dk_at dksX5_isLeaf_2 6 rfl rfl)
theorem dX5_isLeaf_54 : decode cX5_isLeaf 54 = .ok (.iadd, 1) := dk_96 (dk_at dksX5_isLeaf_2 7 rfl rfl)
theorem dX5_isLeaf_55 : decode cX5_isLeaf 55 = .ok (.iaload, 1) := dk_46 (dk_at dksX5_isLeaf_2 8 rfl rfl)
theorem dX5_isLeaf_56 : decode cX5_isLeaf 56 = .ok (.iload 4, 2) := dk_21 4 (dk_at dksX5_isLeaf_2 9 rfl rfl)
theorem dX5_isLeaf_58 : decode cX5_isLeaf 58 = .ok (.if_icmp .ne 7, 3) := dk_160 0 7 (dk_at dksX5_isLeaf_2 11 rfl rfl)
theorem dX5_isLeaf_61 : decode cX5_isLeaf 61 = .ok (.iconst 1, 1) := dk_4 (dk_at dksX5_isLeaf_2 14 rfl rfl)
theorem dX5_isLeaf_62 : decode cX5_isLeaf 62 = .ok (.goto 4, 3) := dk_167 0 4 (dk_at dksX5_isLeaf_2 15 rfl rfl)
theorem dX5_isLeaf_65 : decode cX5_isLeaf 65 = .ok (.iconst 0, 1) := dk_3 (dk_at dksX5_isLeaf_2 18 rfl rfl)
theorem dX5_isLeaf_66 : decode cX5_isLeaf 66 = .ok (.ireturn, 1) := dk_172 (dk_at dksX5_isLeaf_2 19 rfl rfl)
theorem dX5_isLeaf_67 : decode cX5_isLeaf 67 = .ok (.iload_n 2, 1) := dk_28 (dk_at dksX5_isLeaf_2 20 rfl rfl)
theorem dX5_isLeaf_68 : decode cX5_isLeaf 68 = .ok (.bipush 6, 2) := dk_16 6 (dk_at dksX5_isLeaf_2 21 rfl rfl)
theorem dX5_isLeaf_70 : decode cX5_isLeaf 70 = .ok (.if_icmp .ne 15, 3) := dk_160 0 15 (dk_at dksX5_isLeaf_3 0 rfl rfl)
theorem dX5_isLeaf_73 : decode cX5_isLeaf 73 = .ok (.aload_n 0, 1) := dk_42 (dk_at dksX5_isLeaf_3 3 rfl rfl)
theorem dX5_isLeaf_74 : decode cX5_isLeaf 74 = .ok (.getfield 33, 3) := dk_180 0 33 (dk_at dksX5_isLeaf_3 4 rfl rfl)
theorem dX5_isLeaf_77 : decode cX5_isLeaf 77 = .ok (.bipush 50, 2) := dk_16 50 (dk_at dksX5_isLeaf_3 7 rfl rfl)
theorem dX5_isLeaf_79 : decode cX5_isLeaf 79 = .ok (.iload_n 1, 1) := dk_27 (dk_at dksX5_isLeaf_3 9 rfl rfl)
theorem dX5_isLeaf_80 : decode cX5_isLeaf 80 = .ok (.iadd, 1) := dk_96 (dk_at dksX5_isLeaf_3 10 rfl rfl)
theorem dX5_isLeaf_81 : decode cX5_isLeaf 81 = .ok (.iaload, 1) := dk_46 (dk_at dksX5_isLeaf_3 11 rfl rfl)
theorem dX5_isLeaf_82 : decode cX5_isLeaf 82 = .ok (.goto 40, 3) := dk_167 0 40 (dk_at dksX5_isLeaf_3 12 rfl rfl)
theorem dX5_isLeaf_85 : decode cX5_isLeaf 85 = .ok (.iload_n 2, 1) := dk_28 (dk_at dksX5_isLeaf_3 15 rfl rfl)
theorem dX5_isLeaf_86 : decode cX5_isLeaf 86 = .ok (.bipush 7, 2) := dk_16 7 (dk_at dksX5_isLeaf_3 16 rfl rfl)
theorem dX5_isLeaf_88 : decode cX5_isLeaf 88 = .ok (.if_icmp .ne 15, 3) := dk_160 0 15 (dk_at dksX5_isLeaf_3 18 rfl rfl)
theorem dX5_isLeaf_91 : decode cX5_isLeaf 91 = .ok (.aload_n 0, 1) := dk_42 (dk_at dksX5_isLeaf_3 21 rfl rfl)
theorem dX5_isLeaf_92 : decode cX5_isLeaf 92 = .ok (.getfield 33, 3) := dk_180 0 33 (dk_at dksX5_isLeaf_4 0 rfl rfl)
theorem dX5_isLeaf_95 : decode cX5_isLeaf 95 = .ok (.bipush 58, 2) := dk_16 58 (dk_at dksX5_isLeaf_4 3 rfl rfl)
theorem dX5_isLeaf_97 : decode cX5_isLeaf 97 = .ok (.iload_n 1, 1) := dk_27 (dk_at dksX5_isLeaf_4 5 rfl rfl)
theorem dX5_isLeaf_98 : decode cX5_isLeaf 98 = .ok (.iadd, 1) := dk_96 (dk_at dksX5_isLeaf_4 6 rfl rfl)
theorem dX5_isLeaf_99 : decode cX5_isLeaf 99 = .ok (.iaload, 1) := dk_46 (dk_at dksX5_isLeaf_4 7 rfl rfl)
theorem dX5_isLeaf_100 : decode cX5_isLeaf 100 = .ok (.goto 22, 3) := dk_167 0 22 (dk_at dksX5_isLeaf_4 8 rfl rfl)
theorem dX5_isLeaf_103 : decode cX5_isLeaf 103 = .ok (.iload_n 2, 1) := dk_28 (dk_at dksX5_isLeaf_4 11 rfl rfl)
theorem dX5_isLeaf_104 : decode cX5_isLeaf 104 = .ok (.bipush 8, 2) := dk_16 8 (dk_at dksX5_isLeaf_4 12 rfl rfl)
theorem dX5_isLeaf_106 : decode cX5_isLeaf 106 = .ok (.if_icmp .ne 15, 3) := dk_160 0 15 (dk_at dksX5_isLeaf_4 14 rfl rfl)
theorem dX5_isLeaf_109 : decode cX5_isLeaf 109 = .ok (.aload_n 0, 1) := dk_42 (dk_at dksX5_isLeaf_4 17 rfl rfl)
theorem dX5_isLeaf_110 : decode cX5_isLeaf 110 = .ok (.getfield 33, 3) := dk_180 0 33 (dk_at dksX5_isLeaf_4 18 rfl rfl)
theorem dX5_isLeaf_113 : decode cX5_isLeaf 113 = .ok (.bipush 66, 2) := dk_16 66 (dk_at dksX5_isLeaf_4 21 rfl rfl)
theorem dX5_isLeaf_115 : decode cX5_isLeaf 115 = .ok (.iload_n 1, 1) := dk_27 (dk_at dksX5_isLeaf_4 23 rfl rfl)
theorem dX5_isLeaf_116 : decode cX5_isLeaf 116 = .ok (.iadd, 1) := dk_96 (dk_at dksX5_isLeaf_5 0 rfl rfl)
theorem dX5_isLeaf_117 : decode cX5_isLeaf 117 = .ok (.iaload, 1) := dk_46 (dk_at dksX5_isLeaf_5 1 rfl rfl)
theorem dX5_isLeaf_118 : decode cX5_isLeaf 118 = .ok (.goto 4, 3) := dk_167 0 4 (dk_at dksX5_isLeaf_5 2 rfl rfl)
theorem dX5_isLeaf_121 : decode cX5_isLeaf 121 = .ok (.iload_n 1, 1) := dk_27 (dk_at dksX5_isLeaf_5 5 rfl rfl)
theorem dX5_isLeaf_122 : decode cX5_isLeaf 122 = .ok (.istore 6, 2) := dk_54 6 (dk_at dksX5_isLeaf_5 6 rfl rfl)
theorem dX5_isLeaf_124 : decode cX5_isLeaf 124 = .ok (.iload_n 3, 1) := dk_29 (dk_at dksX5_isLeaf_5 8 rfl rfl)
theorem dX5_isLeaf_125 : decode cX5_isLeaf 125 = .ok (.bipush 60, 2) := dk_16 60 (dk_at dksX5_isLeaf_5 9 rfl rfl)
theorem dX5_isLeaf_127 : decode cX5_isLeaf 127 = .ok (.if_icmp .ne 18, 3) := dk_160 0 18 (dk_at dksX5_isLeaf_5 11 rfl rfl)
theorem dX5_isLeaf_130 : decode cX5_isLeaf 130 = .ok (.iload 6, 2) := dk_21 6 (dk_at dksX5_isLeaf_5 14 rfl rfl)
theorem dX5_isLeaf_132 : decode cX5_isLeaf 132 = .ok (.iload 4, 2) := dk_21 4 (dk_at dksX5_isLeaf_5 16 rfl rfl)
theorem dX5_isLeaf_134 : decode cX5_isLeaf 134 = .ok (.if_icmp .ge 7, 3) := dk_162 0 7 (dk_at dksX5_isLeaf_5 18 rfl rfl)
theorem dX5_isLeaf_137 : decode cX5_isLeaf 137 = .ok (.iconst 1, 1) := dk_4 (dk_at dksX5_isLeaf_5 21 rfl rfl)
theorem dX5_isLeaf_138 : decode cX5_isLeaf 138 = .ok (.goto 40, 3) := dk_167 0 40 (dk_at dksX5_isLeaf_6 0 rfl rfl)
theorem dX5_isLeaf_141 : decode cX5_isLeaf 141 = .ok (.iconst 0, 1) := dk_3 (dk_at dksX5_isLeaf_6 3 rfl rfl)
theorem dX5_isLeaf_142 : decode cX5_isLeaf 142 = .ok (.goto 36, 3) := dk_167 0 36 (dk_at dksX5_isLeaf_6 4 rfl rfl)
theorem dX5_isLeaf_145 : decode cX5_isLeaf 145 = .ok (.iload_n 3, 1) := dk_29 (dk_at dksX5_isLeaf_6 7 rfl rfl)
theorem dX5_isLeaf_146 : decode cX5_isLeaf 146 = .ok (.bipush 61, 2) := dk_16 61 (dk_at dksX5_isLeaf_6 8 rfl rfl)
theorem dX5_isLeaf_148 : decode cX5_isLeaf 148 = .ok (.if_icmp .ne 18, 3) := dk_160 0 18 (dk_at dksX5_isLeaf_6 10 rfl rfl)
theorem dX5_isLeaf_151 : decode cX5_isLeaf 151 = .ok (.iload 6, 2) := dk_21 6 (dk_at dksX5_isLeaf_6 13 rfl rfl)
theorem dX5_isLeaf_153 : decode cX5_isLeaf 153 = .ok (.iload 4, 2) := dk_21 4 (dk_at dksX5_isLeaf_6 15 rfl rfl)
theorem dX5_isLeaf_155 : decode cX5_isLeaf 155 = .ok (.if_icmp .ne 7, 3) := dk_160 0 7 (dk_at dksX5_isLeaf_6 17 rfl rfl)
theorem dX5_isLeaf_158 : decode cX5_isLeaf 158 = .ok (.iconst 1, 1) := dk_4 (dk_at dksX5_isLeaf_6 20 rfl rfl)
theorem dX5_isLeaf_159 : decode cX5_isLeaf 159 = .ok (.goto 19, 3) := dk_167 0 19 (dk_at dksX5_isLeaf_6 21 rfl rfl)
theorem dX5_isLeaf_162 : decode cX5_isLeaf 162 = .ok (.iconst 0, 1) := dk_3 (dk_at dksX5_isLeaf_7 0 rfl rfl)
theorem dX5_isLeaf_163 : decode cX5_isLeaf 163 = .ok (.goto 15, 3) := dk_167 0 15 (dk_at dksX5_isLeaf_7 1 rfl rfl)
theorem dX5_isLeaf_166 : decode cX5_isLeaf 166 = .ok (.iload 6, 2) := dk_21 6 (dk_at dksX5_isLeaf_7 4 rfl rfl)
theorem dX5_isLeaf_168 : decode cX5_isLeaf 168 = .ok (.iload 4, 2) := dk_21 4 (dk_at dksX5_isLeaf_7 6 rfl rfl)
theorem dX5_isLeaf_170 : decode cX5_isLeaf 170 = .ok (.if_icmp .le 7, 3) := dk_164 0 7 (dk_at dksX5_isLeaf_7 8 rfl rfl)
theorem dX5_isLeaf_173 : decode cX5_isLeaf 173 = .ok (.iconst 1, 1) := dk_4 (dk_at dksX5_isLeaf_7 11 rfl rfl)
theorem dX5_isLeaf_174 : decode cX5_isLeaf 174 = .ok (.goto 4, 3) := dk_167 0 4 (dk_at dksX5_isLeaf_7 12 rfl rfl)
theorem dX5_isLeaf_177 : decode cX5_isLeaf 177 = .ok (.iconst 0, 1) := dk_3 (dk_at dksX5_isLeaf_7 15 rfl rfl)
theorem dX5_isLeaf_178 : decode cX5_isLeaf 178 = .ok (.ireturn, 1) := dk_172 (dk_at dksX5_isLeaf_7 16 rfl rfl)
abbrev cX5_image : ByteArray := prog_26_method_115_code
def yX5_image : MethodName := ⟨RX5, "image", "(I)Z"⟩
def dkwX5_image_3 : List UInt8 := [180, 0, 43, 28, 47, 80, 132, 2, 1, 167, 255, 230, 42, 180, 0, 88, 27, 4, 84, 4, 172]
abbrev dktX5_image_3 : List UInt8 := dkwX5_image_3 ++ []
def dkwX5_image_2 : List UInt8 := [167, 255, 228, 3, 61, 28, 16, 26, 162, 0, 26, 42, 180, 0, 85, 16, 26, 27, 104, 28, 96, 42]
abbrev dktX5_image_2 : List UInt8 := dkwX5_image_2 ++ dktX5_image_3
def dkwX5_image_1 : List UInt8 := [162, 0, 27, 42, 180, 0, 82, 17, 2, 145, 27, 104, 28, 96, 42, 180, 0, 33, 28, 46, 79, 132, 2, 1]
abbrev dktX5_image_1 : List UInt8 := dkwX5_image_1 ++ dktX5_image_2
def dkwX5_image_0 : List UInt8 := [42, 3, 181, 0, 1, 27, 3, 4, 184, 0, 187, 154, 0, 5, 3, 172, 3, 61, 28, 17, 2, 145]
abbrev dktX5_image_0 : List UInt8 := dkwX5_image_0 ++ dktX5_image_1
theorem dksX5_image_0 : cX5_image.data.toList.drop 0 = dktX5_image_0 := by decide +kernel
theorem dksX5_image_1 : cX5_image.data.toList.drop 22 = dktX5_image_1 := dk_seg dksX5_image_0 22 rfl rfl
theorem dksX5_image_2 : cX5_image.data.toList.drop 46 = dktX5_image_2 := dk_seg dksX5_image_1 24 rfl rfl
theorem dksX5_image_3 : cX5_image.data.toList.drop 68 = dktX5_image_3 := dk_seg dksX5_image_2 22 rfl rfl
theorem dX5_image_0 : decode cX5_image 0 = .ok (.aload_n 0, 1) := dk_42 (dk_at dksX5_image_0 0 rfl rfl)
theorem dX5_image_1 : decode cX5_image 1 = .ok (.iconst 0, 1) := dk_3 (dk_at dksX5_image_0 1 rfl rfl)
theorem dX5_image_2 : decode cX5_image 2 = .ok (.putfield 1, 3) := dk_181 0 1 (dk_at dksX5_image_0 2 rfl rfl)
theorem dX5_image_5 : decode cX5_image 5 = .ok (.iload_n 1, 1) := dk_27 (dk_at dksX5_image_0 5 rfl rfl)
theorem dX5_image_6 : decode cX5_image 6 = .ok (.iconst 0, 1) := dk_3 (dk_at dksX5_image_0 6 rfl rfl)
theorem dX5_image_7 : decode cX5_image 7 = .ok (.iconst 1, 1) := dk_4 (dk_at dksX5_image_0 7 rfl rfl)
theorem dX5_image_8 : decode cX5_image 8 = .ok (.invokestatic 187, 3) := dk_184 0 187 (dk_at dksX5_image_0 8 rfl rfl)
theorem dX5_image_11 : decode cX5_image 11 = .ok (.ifCond .ne 5, 3) := dk_154 0 5 (dk_at dksX5_image_0 11 rfl rfl)
theorem dX5_image_14 : decode cX5_image 14 = .ok (.iconst 0, 1) := dk_3 (dk_at dksX5_image_0 14 rfl rfl)
theorem dX5_image_15 : decode cX5_image 15 = .ok (.ireturn, 1) := dk_172 (dk_at dksX5_image_0 15 rfl rfl)
theorem dX5_image_16 : decode cX5_image 16 = .ok (.iconst 0, 1) := dk_3 (dk_at dksX5_image_0 16 rfl rfl)
theorem dX5_image_17 : decode cX5_image 17 = .ok (.istore_n 2, 1) := dk_61 (dk_at dksX5_image_0 17 rfl rfl)
theorem dX5_image_18 : decode cX5_image 18 = .ok (.iload_n 2, 1) := dk_28 (dk_at dksX5_image_0 18 rfl rfl)
theorem dX5_image_19 : decode cX5_image 19 = .ok (.sipush 657, 3) := dk_17 2 145 (dk_at dksX5_image_0 19 rfl rfl)
theorem dX5_image_22 : decode cX5_image 22 = .ok (.if_icmp .ge 27, 3) := dk_162 0 27 (dk_at dksX5_image_1 0 rfl rfl)
theorem dX5_image_25 : decode cX5_image 25 = .ok (.aload_n 0, 1) := dk_42 (dk_at dksX5_image_1 3 rfl rfl)
theorem dX5_image_26 : decode cX5_image 26 = .ok (.getfield 82, 3) := dk_180 0 82 (dk_at dksX5_image_1 4 rfl rfl)
theorem dX5_image_29 : decode cX5_image 29 = .ok (.sipush 657, 3) := dk_17 2 145 (dk_at dksX5_image_1 7 rfl rfl)
theorem dX5_image_32 : decode cX5_image 32 = .ok (.iload_n 1, 1) := dk_27 (dk_at dksX5_image_1 10 rfl rfl)
theorem dX5_image_33 : decode cX5_image 33 = .ok (.imul, 1) := dk_104 (dk_at dksX5_image_1 11 rfl rfl)
theorem dX5_image_34 : decode cX5_image 34 = .ok (.iload_n 2, 1) := dk_28 (dk_at dksX5_image_1 12 rfl rfl)
theorem dX5_image_35 : decode cX5_image 35 = .ok (.iadd, 1) := dk_96 (dk_at dksX5_image_1 13 rfl rfl)
theorem dX5_image_36 : decode cX5_image 36 = .ok (.aload_n 0, 1) := dk_42 (dk_at dksX5_image_1 14 rfl rfl)
theorem dX5_image_37 : decode cX5_image 37 = .ok (.getfield 33, 3) := dk_180 0 33 (dk_at dksX5_image_1 15 rfl rfl)
theorem dX5_image_40 : decode cX5_image 40 = .ok (.iload_n 2, 1) := dk_28 (dk_at dksX5_image_1 18 rfl rfl)
theorem dX5_image_41 : decode cX5_image 41 = .ok (.iaload, 1) := dk_46 (dk_at dksX5_image_1 19 rfl rfl)
theorem dX5_image_42 : decode cX5_image 42 = .ok (.iastore, 1) := dk_79 (dk_at dksX5_image_1 20 rfl rfl)
theorem dX5_image_43 : decode cX5_image 43 = .ok (.iinc 2 1, 3) := dk_132 2 1 (dk_at dksX5_image_1 21 rfl rfl)
theorem dX5_image_46 : decode cX5_image 46 = .ok (.goto (-28), 3) := dk_167 255 228 (dk_at dksX5_image_2 0 rfl rfl)
theorem dX5_image_49 : decode cX5_image 49 = .ok (.iconst 0, 1) := dk_3 (dk_at dksX5_image_2 3 rfl rfl)
theorem dX5_image_50 : decode cX5_image 50 = .ok (.istore_n 2, 1) := dk_61 (dk_at dksX5_image_2 4 rfl rfl)
theorem dX5_image_51 : decode cX5_image 51 = .ok (.iload_n 2, 1) := dk_28 (dk_at dksX5_image_2 5 rfl rfl)
theorem dX5_image_52 : decode cX5_image 52 = .ok (.bipush 26, 2) := dk_16 26 (dk_at dksX5_image_2 6 rfl rfl)
theorem dX5_image_54 : decode cX5_image 54 = .ok (.if_icmp .ge 26, 3) := dk_162 0 26 (dk_at dksX5_image_2 8 rfl rfl)
theorem dX5_image_57 : decode cX5_image 57 = .ok (.aload_n 0, 1) := dk_42 (dk_at dksX5_image_2 11 rfl rfl)
theorem dX5_image_58 : decode cX5_image 58 = .ok (.getfield 85, 3) := dk_180 0 85 (dk_at dksX5_image_2 12 rfl rfl)
theorem dX5_image_61 : decode cX5_image 61 = .ok (.bipush 26, 2) := dk_16 26 (dk_at dksX5_image_2 15 rfl rfl)
theorem dX5_image_63 : decode cX5_image 63 = .ok (.iload_n 1, 1) := dk_27 (dk_at dksX5_image_2 17 rfl rfl)
theorem dX5_image_64 : decode cX5_image 64 = .ok (.imul, 1) := dk_104 (dk_at dksX5_image_2 18 rfl rfl)
theorem dX5_image_65 : decode cX5_image 65 = .ok (.iload_n 2, 1) := dk_28 (dk_at dksX5_image_2 19 rfl rfl)
theorem dX5_image_66 : decode cX5_image 66 = .ok (.iadd, 1) := dk_96 (dk_at dksX5_image_2 20 rfl rfl)
theorem dX5_image_67 : decode cX5_image 67 = .ok (.aload_n 0, 1) := dk_42 (dk_at dksX5_image_2 21 rfl rfl)
theorem dX5_image_68 : decode cX5_image 68 = .ok (.getfield 43, 3) := dk_180 0 43 (dk_at dksX5_image_3 0 rfl rfl)
theorem dX5_image_71 : decode cX5_image 71 = .ok (.iload_n 2, 1) := dk_28 (dk_at dksX5_image_3 3 rfl rfl)
theorem dX5_image_72 : decode cX5_image 72 = .ok (.laload, 1) := dk_47 (dk_at dksX5_image_3 4 rfl rfl)
theorem dX5_image_73 : decode cX5_image 73 = .ok (.lastore, 1) := dk_80 (dk_at dksX5_image_3 5 rfl rfl)
theorem dX5_image_74 : decode cX5_image 74 = .ok (.iinc 2 1, 3) := dk_132 2 1 (dk_at dksX5_image_3 6 rfl rfl)
theorem dX5_image_77 : decode cX5_image 77 = .ok (.goto (-26), 3) := dk_167 255 230 (dk_at dksX5_image_3 9 rfl rfl)
theorem dX5_image_80 : decode cX5_image 80 = .ok (.aload_n 0, 1) := dk_42 (dk_at dksX5_image_3 12 rfl rfl)
theorem dX5_image_81 : decode cX5_image 81 = .ok (.getfield 88, 3) := dk_180 0 88 (dk_at dksX5_image_3 13 rfl rfl)
theorem dX5_image_84 : decode cX5_image 84 = .ok (.iload_n 1, 1) := dk_27 (dk_at dksX5_image_3 16 rfl rfl)
theorem dX5_image_85 : decode cX5_image 85 = .ok (.iconst 1, 1) := dk_4 (dk_at dksX5_image_3 17 rfl rfl)
theorem dX5_image_86 : decode cX5_image 86 = .ok (.bastore, 1) := dk_84 (dk_at dksX5_image_3 18 rfl rfl)
theorem dX5_image_87 : decode cX5_image 87 = .ok (.iconst 1, 1) := dk_4 (dk_at dksX5_image_3 19 rfl rfl)
theorem dX5_image_88 : decode cX5_image 88 = .ok (.ireturn, 1) := dk_172 (dk_at dksX5_image_3 20 rfl rfl)
abbrev cX5_restore : ByteArray := prog_26_method_116_code
def yX5_restore : MethodName := ⟨RX5, "restore", "(I)Z"⟩
def dkwX5_restore_3 : List UInt8 := [180, 0, 85, 16, 26, 27, 104, 28, 96, 47, 80, 132, 2, 1, 167, 255, 230, 42, 3, 181, 0, 241, 4, 172]
abbrev dktX5_restore_3 : List UInt8 := dkwX5_restore_3 ++ []
def dkwX5_restore_2 : List UInt8 := [28, 96, 46, 79, 132, 2, 1, 167, 255, 228, 3, 61, 28, 16, 26, 162, 0, 26, 42, 180, 0, 43, 28, 42]
abbrev dktX5_restore_2 : List UInt8 := dkwX5_restore_2 ++ dktX5_restore_3
def dkwX5_restore_1 : List UInt8 := [172, 3, 61, 28, 17, 2, 145, 162, 0, 27, 42, 180, 0, 33, 28, 42, 180, 0, 82, 17, 2, 145, 27, 104]
abbrev dktX5_restore_1 : List UInt8 := dkwX5_restore_1 ++ dktX5_restore_2
def dkwX5_restore_0 : List UInt8 := [42, 3, 181, 0, 1, 27, 3, 4, 184, 0, 187, 153, 0, 12, 42, 180, 0, 88, 27, 51, 154, 0, 5, 3]
abbrev dktX5_restore_0 : List UInt8 := dkwX5_restore_0 ++ dktX5_restore_1
theorem dksX5_restore_0 : cX5_restore.data.toList.drop 0 = dktX5_restore_0 := by decide +kernel
theorem dksX5_restore_1 : cX5_restore.data.toList.drop 24 = dktX5_restore_1 := dk_seg dksX5_restore_0 24 rfl rfl
theorem dksX5_restore_2 : cX5_restore.data.toList.drop 48 = dktX5_restore_2 := dk_seg dksX5_restore_1 24 rfl rfl
theorem dksX5_restore_3 : cX5_restore.data.toList.drop 72 = dktX5_restore_3 := dk_seg dksX5_restore_2 24 rfl rfl
theorem dX5_restore_0 : decode cX5_restore 0 = .ok (.aload_n 0, 1) := dk_42 (dk_at dksX5_restore_0 0 rfl rfl)
theorem dX5_restore_1 : decode cX5_restore 1 = .ok (.iconst 0, 1) := dk_3 (dk_at dksX5_restore_0 1 rfl rfl)
theorem dX5_restore_2 : decode cX5_restore 2 = .ok (.putfield 1, 3) := dk_181 0 1 (dk_at dksX5_restore_0 2 rfl rfl)
theorem dX5_restore_5 : decode cX5_restore 5 = .ok (.iload_n 1, 1) := dk_27 (dk_at dksX5_restore_0 5 rfl rfl)
theorem dX5_restore_6 : decode cX5_restore 6 = .ok (.iconst 0, 1) := dk_3 (dk_at dksX5_restore_0 6 rfl rfl)
theorem dX5_restore_7 : decode cX5_restore 7 = .ok (.iconst 1, 1) := dk_4 (dk_at dksX5_restore_0 7 rfl rfl)
theorem dX5_restore_8 : decode cX5_restore 8 = .ok (.invokestatic 187, 3) := dk_184 0 187 (dk_at dksX5_restore_0 8 rfl rfl)
theorem dX5_restore_11 : decode cX5_restore 11 = .ok (.ifCond .eq 12, 3) := dk_153 0 12 (dk_at dksX5_restore_0 11 rfl rfl)
theorem dX5_restore_14 : decode cX5_restore 14 = .ok (.aload_n 0, 1) := dk_42 (dk_at dksX5_restore_0 14 rfl rfl)
theorem dX5_restore_15 : decode cX5_restore 15 = .ok (.getfield 88, 3) := dk_180 0 88 (dk_at dksX5_restore_0 15 rfl rfl)
theorem dX5_restore_18 : decode cX5_restore 18 = .ok (.iload_n 1, 1) := dk_27 (dk_at dksX5_restore_0 18 rfl rfl)
theorem dX5_restore_19 : decode cX5_restore 19 = .ok (.baload, 1) := dk_51 (dk_at dksX5_restore_0 19 rfl rfl)
theorem dX5_restore_20 : decode cX5_restore 20 = .ok (.ifCond .ne 5, 3) := dk_154 0 5 (dk_at dksX5_restore_0 20 rfl rfl)
theorem dX5_restore_23 : decode cX5_restore 23 = .ok (.iconst 0, 1) := dk_3 (dk_at dksX5_restore_0 23 rfl rfl)
theorem dX5_restore_24 : decode cX5_restore 24 = .ok (.ireturn, 1) := dk_172 (dk_at dksX5_restore_1 0 rfl rfl)
theorem dX5_restore_25 : decode cX5_restore 25 = .ok (.iconst 0, 1) := dk_3 (dk_at dksX5_restore_1 1 rfl rfl)
theorem dX5_restore_26 : decode cX5_restore 26 = .ok (.istore_n 2, 1) := dk_61 (dk_at dksX5_restore_1 2 rfl rfl)
theorem dX5_restore_27 : decode cX5_restore 27 = .ok (.iload_n 2, 1) := dk_28 (dk_at dksX5_restore_1 3 rfl rfl)
theorem dX5_restore_28 : decode cX5_restore 28 = .ok (.sipush 657, 3) := dk_17 2 145 (dk_at dksX5_restore_1 4 rfl rfl)
theorem dX5_restore_31 : decode cX5_restore 31 = .ok (.if_icmp .ge 27, 3) := dk_162 0 27 (dk_at dksX5_restore_1 7 rfl rfl)
theorem dX5_restore_34 : decode cX5_restore 34 = .ok (.aload_n 0, 1) := dk_42 (dk_at dksX5_restore_1 10 rfl rfl)
theorem dX5_restore_35 : decode cX5_restore 35 = .ok (.getfield 33, 3) := dk_180 0 33 (dk_at dksX5_restore_1 11 rfl rfl)
theorem dX5_restore_38 : decode cX5_restore 38 = .ok (.iload_n 2, 1) := dk_28 (dk_at dksX5_restore_1 14 rfl rfl)
theorem dX5_restore_39 : decode cX5_restore 39 = .ok (.aload_n 0, 1) := dk_42 (dk_at dksX5_restore_1 15 rfl rfl)
theorem dX5_restore_40 : decode cX5_restore 40 = .ok (.getfield 82, 3) := dk_180 0 82 (dk_at dksX5_restore_1 16 rfl rfl)
theorem dX5_restore_43 : decode cX5_restore 43 = .ok (.sipush 657, 3) := dk_17 2 145 (dk_at dksX5_restore_1 19 rfl rfl)
theorem dX5_restore_46 : decode cX5_restore 46 = .ok (.iload_n 1, 1) := dk_27 (dk_at dksX5_restore_1 22 rfl rfl)
theorem dX5_restore_47 : decode cX5_restore 47 = .ok (.imul, 1) := dk_104 (dk_at dksX5_restore_1 23 rfl rfl)
theorem dX5_restore_48 : decode cX5_restore 48 = .ok (.iload_n 2, 1) := dk_28 (dk_at dksX5_restore_2 0 rfl rfl)
theorem dX5_restore_49 : decode cX5_restore 49 = .ok (.iadd, 1) := dk_96 (dk_at dksX5_restore_2 1 rfl rfl)
theorem dX5_restore_50 : decode cX5_restore 50 = .ok (.iaload, 1) := dk_46 (dk_at dksX5_restore_2 2 rfl rfl)
theorem dX5_restore_51 : decode cX5_restore 51 = .ok (.iastore, 1) := dk_79 (dk_at dksX5_restore_2 3 rfl rfl)
theorem dX5_restore_52 : decode cX5_restore 52 = .ok (.iinc 2 1, 3) := dk_132 2 1 (dk_at dksX5_restore_2 4 rfl rfl)
theorem dX5_restore_55 : decode cX5_restore 55 = .ok (.goto (-28), 3) := dk_167 255 228 (dk_at dksX5_restore_2 7 rfl rfl)
theorem dX5_restore_58 : decode cX5_restore 58 = .ok (.iconst 0, 1) := dk_3 (dk_at dksX5_restore_2 10 rfl rfl)
theorem dX5_restore_59 : decode cX5_restore 59 = .ok (.istore_n 2, 1) := dk_61 (dk_at dksX5_restore_2 11 rfl rfl)
theorem dX5_restore_60 : decode cX5_restore 60 = .ok (.iload_n 2, 1) := dk_28 (dk_at dksX5_restore_2 12 rfl rfl)
theorem dX5_restore_61 : decode cX5_restore 61 = .ok (.bipush 26, 2) := dk_16 26 (dk_at dksX5_restore_2 13 rfl rfl)
theorem dX5_restore_63 : decode cX5_restore 63 = .ok (.if_icmp .ge 26, 3) := dk_162 0 26 (dk_at dksX5_restore_2 15 rfl rfl)
theorem dX5_restore_66 : decode cX5_restore 66 = .ok (.aload_n 0, 1) := dk_42 (dk_at dksX5_restore_2 18 rfl rfl)
theorem dX5_restore_67 : decode cX5_restore 67 = .ok (.getfield 43, 3) := dk_180 0 43 (dk_at dksX5_restore_2 19 rfl rfl)
theorem dX5_restore_70 : decode cX5_restore 70 = .ok (.iload_n 2, 1) := dk_28 (dk_at dksX5_restore_2 22 rfl rfl)
theorem dX5_restore_71 : decode cX5_restore 71 = .ok (.aload_n 0, 1) := dk_42 (dk_at dksX5_restore_2 23 rfl rfl)
theorem dX5_restore_72 : decode cX5_restore 72 = .ok (.getfield 85, 3) := dk_180 0 85 (dk_at dksX5_restore_3 0 rfl rfl)
theorem dX5_restore_75 : decode cX5_restore 75 = .ok (.bipush 26, 2) := dk_16 26 (dk_at dksX5_restore_3 3 rfl rfl)
theorem dX5_restore_77 : decode cX5_restore 77 = .ok (.iload_n 1, 1) := dk_27 (dk_at dksX5_restore_3 5 rfl rfl)
theorem dX5_restore_78 : decode cX5_restore 78 = .ok (.imul, 1) := dk_104 (dk_at dksX5_restore_3 6 rfl rfl)
theorem dX5_restore_79 : decode cX5_restore 79 = .ok (.iload_n 2, 1) := dk_28 (dk_at dksX5_restore_3 7 rfl rfl)
theorem dX5_restore_80 : decode cX5_restore 80 = .ok (.iadd, 1) := dk_96 (dk_at dksX5_restore_3 8 rfl rfl)
theorem dX5_restore_81 : decode cX5_restore 81 = .ok (.laload, 1) := dk_47 (dk_at dksX5_restore_3 9 rfl rfl)
theorem dX5_restore_82 : decode cX5_restore 82 = .ok (.lastore, 1) := dk_80 (dk_at dksX5_restore_3 10 rfl rfl)
theorem dX5_restore_83 : decode cX5_restore 83 = .ok (.iinc 2 1, 3) := dk_132 2 1 (dk_at dksX5_restore_3 11 rfl rfl)
theorem dX5_restore_86 : decode cX5_restore 86 = .ok (.goto (-26), 3) := dk_167 255 230 (dk_at dksX5_restore_3 14 rfl rfl)
theorem dX5_restore_89 : decode cX5_restore 89 = .ok (.aload_n 0, 1) := dk_42 (dk_at dksX5_restore_3 17 rfl rfl)
theorem dX5_restore_90 : decode cX5_restore 90 = .ok (.iconst 0, 1) := dk_3 (dk_at dksX5_restore_3 18 rfl rfl)
theorem dX5_restore_91 : decode cX5_restore 91 = .ok (.putfield 241, 3) := dk_181 0 241 (dk_at dksX5_restore_3 19 rfl rfl)
theorem dX5_restore_94 : decode cX5_restore 94 = .ok (.iconst 1, 1) := dk_4 (dk_at dksX5_restore_3 22 rfl rfl)
theorem dX5_restore_95 : decode cX5_restore 95 = .ok (.ireturn, 1) := dk_172 (dk_at dksX5_restore_3 23 rfl rfl)
abbrev cX5_count : ByteArray := prog_26_method_117_code
def yX5_count : MethodName := ⟨RX5, "count", "(I)I"⟩
def dkwX5_count_1 : List UInt8 := [184, 0, 187, 153, 0, 12, 42, 180, 0, 33, 27, 46, 167, 0, 4, 2, 172]
abbrev dktX5_count_1 : List UInt8 := dkwX5_count_1 ++ []
def dkwX5_count_0 : List UInt8 := [42, 3, 181, 0, 1, 27, 16, 8, 160, 0, 10, 42, 180, 0, 7, 167, 0, 23, 27, 3, 16, 7]
abbrev dktX5_count_0 : List UInt8 := dkwX5_count_0 ++ dktX5_count_1
theorem dksX5_count_0 : cX5_count.data.toList.drop 0 = dktX5_count_0 := by decide +kernel
theorem dksX5_count_1 : cX5_count.data.toList.drop 22 = dktX5_count_1 := dk_seg dksX5_count_0 22 rfl rfl
theorem dX5_count_0 : decode cX5_count 0 = .ok (.aload_n 0, 1) := dk_42 (dk_at dksX5_count_0 0 rfl rfl)
theorem dX5_count_1 : decode cX5_count 1 = .ok (.iconst 0, 1) := dk_3 (dk_at dksX5_count_0 1 rfl rfl)
theorem dX5_count_2 : decode cX5_count 2 = .ok (.putfield 1, 3) := dk_181 0 1 (dk_at dksX5_count_0 2 rfl rfl)
theorem dX5_count_5 : decode cX5_count 5 = .ok (.iload_n 1, 1) := dk_27 (dk_at dksX5_count_0 5 rfl rfl)
theorem dX5_count_6 : decode cX5_count 6 = .ok (.bipush 8, 2) := dk_16 8 (dk_at dksX5_count_0 6 rfl rfl)
theorem dX5_count_8 : decode cX5_count 8 = .ok (.if_icmp .ne 10, 3) := dk_160 0 10 (dk_at dksX5_count_0 8 rfl rfl)
theorem dX5_count_11 : decode cX5_count 11 = .ok (.aload_n 0, 1) := dk_42 (dk_at dksX5_count_0 11 rfl rfl)
theorem dX5_count_12 : decode cX5_count 12 = .ok (.getfield 7, 3) := dk_180 0 7 (dk_at dksX5_count_0 12 rfl rfl)
theorem dX5_count_15 : decode cX5_count 15 = .ok (.goto 23, 3) := dk_167 0 23 (dk_at dksX5_count_0 15 rfl rfl)
theorem dX5_count_18 : decode cX5_count 18 = .ok (.iload_n 1, 1) := dk_27 (dk_at dksX5_count_0 18 rfl rfl)
theorem dX5_count_19 : decode cX5_count 19 = .ok (.iconst 0, 1) := dk_3 (dk_at dksX5_count_0 19 rfl rfl)
theorem dX5_count_20 : decode cX5_count 20 = .ok (.bipush 7, 2) := dk_16 7 (dk_at dksX5_count_0 20 rfl rfl)
theorem dX5_count_22 : decode cX5_count 22 = .ok (.invokestatic 187, 3) := dk_184 0 187 (dk_at dksX5_count_1 0 rfl rfl)
theorem dX5_count_25 : decode cX5_count 25 = .ok (.ifCond .eq 12, 3) := dk_153 0 12 (dk_at dksX5_count_1 3 rfl rfl)
theorem dX5_count_28 : decode cX5_count 28 = .ok (.aload_n 0, 1) := dk_42 (dk_at dksX5_count_1 6 rfl rfl)
theorem dX5_count_29 : decode cX5_count 29 = .ok (.getfield 33, 3) := dk_180 0 33 (dk_at dksX5_count_1 7 rfl rfl)
theorem dX5_count_32 : decode cX5_count 32 = .ok (.iload_n 1, 1) := dk_27 (dk_at dksX5_count_1 10 rfl rfl)
theorem dX5_count_33 : decode cX5_count 33 = .ok (.iaload, 1) := dk_46 (dk_at dksX5_count_1 11 rfl rfl)
theorem dX5_count_34 : decode cX5_count 34 = .ok (.goto 4, 3) := dk_167 0 4 (dk_at dksX5_count_1 12 rfl rfl)
theorem dX5_count_37 : decode cX5_count 37 = .ok (.iconst (-1), 1) := dk_2 (dk_at dksX5_count_1 15 rfl rfl)
theorem dX5_count_38 : decode cX5_count 38 = .ok (.ireturn, 1) := dk_172 (dk_at dksX5_count_1 16 rfl rfl)
theorem q119 : (Jvm.Cond.initialized "WellPromisesModel") ∈ lw_all := lw_g (lw_at lw_m1 11 rfl) rfl
theorem q993 : (Jvm.Cond.selects "WellPromisesModel" ({ cls := "java/lang/Object", name := "getClass", desc := "()Ljava/lang/Class;" } : Jvm.MethodName) ({ cls := "java/lang/Object", name := "getClass", desc := "()Ljava/lang/Class;" } : Jvm.MethodName)) ∈ lw_all := lw_g (lw_at lw_m4 165 rfl) rfl
theorem q1877 : (Jvm.Cond.instanceMethod ({ cls := "WellPromisesModel", name := "thrown", desc := "()I" } : Jvm.MethodName)) ∈ lw_all := lw_g (lw_at lw_m8 89 rfl) rfl
theorem q1878 : (Jvm.Cond.selects "WellPromisesModel" ({ cls := "WellPromisesModel", name := "thrown", desc := "()I" } : Jvm.MethodName) ({ cls := "WellPromisesModel", name := "thrown", desc := "()I" } : Jvm.MethodName)) ∈ lw_all := lw_g (lw_at lw_m8 90 rfl) rfl
theorem q1879 : (Jvm.Cond.code ({ cls := "WellPromisesModel", name := "thrown", desc := "()I" } : Jvm.MethodName) prog_26_method_1_code (1 : Nat) (Option.some Jvm.ClassFile.FieldType.int)) ∈ lw_all := lw_g (lw_at lw_m8 91 rfl) rfl
theorem q1881 : (Jvm.Cond.instanceMethod ({ cls := "WellPromisesModel", name := "feed", desc := "(IIIII)I" } : Jvm.MethodName)) ∈ lw_all := lw_g (lw_at lw_m8 93 rfl) rfl
theorem q1882 : (Jvm.Cond.selects "WellPromisesModel" ({ cls := "WellPromisesModel", name := "feed", desc := "(IIIII)I" } : Jvm.MethodName) ({ cls := "WellPromisesModel", name := "feed", desc := "(IIIII)I" } : Jvm.MethodName)) ∈ lw_all := lw_g (lw_at lw_m8 94 rfl) rfl
theorem q1883 : (Jvm.Cond.code ({ cls := "WellPromisesModel", name := "feed", desc := "(IIIII)I" } : Jvm.MethodName) prog_26_method_3_code (6 : Nat) (Option.some Jvm.ClassFile.FieldType.int)) ∈ lw_all := lw_g (lw_at lw_m8 95 rfl) rfl
theorem q1884 : (Jvm.Cond.methodLink "WellPromisesModel" (10 : Nat) ({ cls := "WellPromisesModel", name := "four", desc := "(I)V" } : Jvm.MethodName)) ∈ lw_all := lw_g (lw_at lw_m8 96 rfl) rfl
theorem q1885 : (Jvm.Cond.privateMethod ({ cls := "WellPromisesModel", name := "four", desc := "(I)V" } : Jvm.MethodName)) ∈ lw_tbl := lw_at lw_m8 97 rfl
theorem q1886 : (Jvm.Cond.instanceMethod ({ cls := "WellPromisesModel", name := "four", desc := "(I)V" } : Jvm.MethodName)) ∈ lw_all := lw_g (lw_at lw_m8 98 rfl) rfl
theorem q1887 : (Jvm.Cond.instantiable "WellPromisesModel" (48 : Nat)) ∈ lw_all := lw_g (lw_at lw_m8 99 rfl) rfl
theorem q1888 : (Jvm.Cond.code ({ cls := "WellPromisesModel", name := "four", desc := "(I)V" } : Jvm.MethodName) prog_26_method_4_code (3 : Nat) (Option.none : Option Jvm.ClassFile.FieldType)) ∈ lw_all := lw_g (lw_at lw_m8 100 rfl) rfl
theorem q1890 : (Jvm.Cond.instanceMethod ({ cls := "WellPromisesModel", name := "end", desc := "(I)Z" } : Jvm.MethodName)) ∈ lw_all := lw_g (lw_at lw_m8 102 rfl) rfl
theorem q1891 : (Jvm.Cond.selects "WellPromisesModel" ({ cls := "WellPromisesModel", name := "end", desc := "(I)Z" } : Jvm.MethodName) ({ cls := "WellPromisesModel", name := "end", desc := "(I)Z" } : Jvm.MethodName)) ∈ lw_all := lw_g (lw_at lw_m8 103 rfl) rfl
theorem q1892 : (Jvm.Cond.code ({ cls := "WellPromisesModel", name := "end", desc := "(I)Z" } : Jvm.MethodName) prog_26_method_5_code (2 : Nat) (Option.some Jvm.ClassFile.FieldType.boolean)) ∈ lw_all := lw_g (lw_at lw_m8 104 rfl) rfl
theorem q1895 : (Jvm.Cond.instanceMethod ({ cls := "WellPromisesModel", name := "<init>", desc := "()V" } : Jvm.MethodName)) ∈ lw_all := lw_g (lw_at lw_m8 107 rfl) rfl
theorem q1896 : (Jvm.Cond.code ({ cls := "WellPromisesModel", name := "<init>", desc := "()V" } : Jvm.MethodName) prog_26_method_11_code (1 : Nat) (Option.none : Option Jvm.ClassFile.FieldType)) ∈ lw_all := lw_g (lw_at lw_m8 108 rfl) rfl
theorem q1897 : (Jvm.Cond.methodLink "WellPromisesModel" (27 : Nat) ({ cls := "java/lang/Object", name := "<init>", desc := "()V" } : Jvm.MethodName)) ∈ lw_all := lw_g (lw_at lw_m8 109 rfl) rfl
theorem q1898 : (Jvm.Cond.constant "WellPromisesModel" (59 : Nat) (51200 : Int32)) ∈ lw_all := lw_g (lw_at lw_m8 110 rfl) rfl
theorem q1899 : (Jvm.Cond.constantLong "WellPromisesModel" (91 : Nat) (448546566771 : Int64)) ∈ lw_all := lw_g (lw_at lw_m8 111 rfl) rfl
theorem q1900 : (Jvm.Cond.constantLong "WellPromisesModel" (93 : Nat) (482854658917 : Int64)) ∈ lw_all := lw_g (lw_at lw_m8 112 rfl) rfl
theorem q1901 : (Jvm.Cond.constantLong "WellPromisesModel" (95 : Nat) (7823737 : Int64)) ∈ lw_all := lw_g (lw_at lw_m8 113 rfl) rfl
theorem q1902 : (Jvm.Cond.constantLong "WellPromisesModel" (97 : Nat) (1718775655 : Int64)) ∈ lw_all := lw_g (lw_at lw_m8 114 rfl) rfl
theorem q1903 : (Jvm.Cond.constantLong "WellPromisesModel" (99 : Nat) (123581014175598 : Int64)) ∈ lw_all := lw_g (lw_at lw_m8 115 rfl) rfl
theorem q1904 : (Jvm.Cond.constantLong "WellPromisesModel" (101 : Nat) (1684366692 : Int64)) ∈ lw_all := lw_g (lw_at lw_m8 116 rfl) rfl
theorem q1905 : (Jvm.Cond.constantLong "WellPromisesModel" (103 : Nat) (31651020294157157 : Int64)) ∈ lw_all := lw_g (lw_at lw_m8 117 rfl) rfl
theorem q1906 : (Jvm.Cond.constantLong "WellPromisesModel" (105 : Nat) (7761783 : Int64)) ∈ lw_all := lw_g (lw_at lw_m8 118 rfl) rfl
theorem q1907 : (Jvm.Cond.constantLong "WellPromisesModel" (107 : Nat) (1700881256 : Int64)) ∈ lw_all := lw_g (lw_at lw_m8 119 rfl) rfl
theorem q1908 : (Jvm.Cond.constantLong "WellPromisesModel" (109 : Nat) (129117125440371 : Int64)) ∈ lw_all := lw_g (lw_at lw_m8 120 rfl) rfl
theorem q1909 : (Jvm.Cond.constantLong "WellPromisesModel" (111 : Nat) (1735353715 : Int64)) ∈ lw_all := lw_g (lw_at lw_m8 121 rfl) rfl
theorem q1910 : (Jvm.Cond.constantLong "WellPromisesModel" (113 : Nat) (1685022067 : Int64)) ∈ lw_all := lw_g (lw_at lw_m8 122 rfl) rfl
theorem q1911 : (Jvm.Cond.constantLong "WellPromisesModel" (115 : Nat) (1935767923 : Int64)) ∈ lw_all := lw_g (lw_at lw_m8 123 rfl) rfl
theorem q1912 : (Jvm.Cond.constantLong "WellPromisesModel" (117 : Nat) (1752135026 : Int64)) ∈ lw_all := lw_g (lw_at lw_m8 124 rfl) rfl
theorem q1913 : (Jvm.Cond.constantLong "WellPromisesModel" (119 : Nat) (28530 : Int64)) ∈ lw_all := lw_g (lw_at lw_m8 125 rfl) rfl
theorem q1914 : (Jvm.Cond.constantLong "WellPromisesModel" (121 : Nat) (6385252 : Int64)) ∈ lw_all := lw_g (lw_at lw_m8 126 rfl) rfl
theorem q1915 : (Jvm.Cond.constantLong "WellPromisesModel" (123 : Nat) (7237492 : Int64)) ∈ lw_all := lw_g (lw_at lw_m8 127 rfl) rfl
theorem q1916 : (Jvm.Cond.constantLong "WellPromisesModel" (125 : Nat) (422776761956 : Int64)) ∈ lw_all := lw_g (lw_at lw_m8 128 rfl) rfl
theorem q1917 : (Jvm.Cond.constantLong "WellPromisesModel" (127 : Nat) (1869636974 : Int64)) ∈ lw_all := lw_g (lw_at lw_m8 129 rfl) rfl
theorem q1918 : (Jvm.Cond.constantLong "WellPromisesModel" (129 : Nat) (1801810036 : Int64)) ∈ lw_all := lw_g (lw_at lw_m8 130 rfl) rfl
theorem q1919 : (Jvm.Cond.constantLong "WellPromisesModel" (131 : Nat) (7300710 : Int64)) ∈ lw_all := lw_g (lw_at lw_m8 131 rfl) rfl
theorem q1920 : (Jvm.Cond.constantLong "WellPromisesModel" (133 : Nat) (108243635103086 : Int64)) ∈ lw_all := lw_g (lw_at lw_m8 132 rfl) rfl
theorem q1921 : (Jvm.Cond.constantLong "WellPromisesModel" (135 : Nat) (28518 : Int64)) ∈ lw_all := lw_g (lw_at lw_m8 133 rfl) rfl
theorem q1922 : (Jvm.Cond.constantLong "WellPromisesModel" (137 : Nat) (1718775661 : Int64)) ∈ lw_all := lw_g (lw_at lw_m8 134 rfl) rfl
theorem q1923 : (Jvm.Cond.constantLong "WellPromisesModel" (139 : Nat) (1953066092 : Int64)) ∈ lw_all := lw_g (lw_at lw_m8 135 rfl) rfl
theorem q1924 : (Jvm.Cond.constantLong "WellPromisesModel" (141 : Nat) (499984983411 : Int64)) ∈ lw_all := lw_g (lw_at lw_m8 136 rfl) rfl
theorem q1925 : (Jvm.Cond.constantLong "WellPromisesModel" (143 : Nat) (121450625394034 : Int64)) ∈ lw_all := lw_g (lw_at lw_m8 137 rfl) rfl
theorem q1926 : (Jvm.Cond.fieldLink "WellPromisesModel" (1 : Nat) "WellPromisesModel" "thrown" "I") ∈ lw_all := lw_g (lw_at lw_m8 138 rfl) rfl
theorem q1927 : (Jvm.Cond.fieldLink "WellPromisesModel" (14 : Nat) "WellPromisesModel" "tape" "[B") ∈ lw_all := lw_g (lw_at lw_m8 139 rfl) rfl
theorem q1928 : (Jvm.Cond.fieldLink "WellPromisesModel" (7 : Nat) "WellPromisesModel" "length" "I") ∈ lw_all := lw_g (lw_at lw_m8 140 rfl) rfl
theorem q1929 : (Jvm.Cond.fieldLink "WellPromisesModel" (18 : Nat) "WellPromisesModel" "size" "I") ∈ lw_all := lw_g (lw_at lw_m8 141 rfl) rfl
theorem q1930 : (Jvm.Cond.fieldLink "WellPromisesModel" (21 : Nat) "WellPromisesModel" "p" "I") ∈ lw_all := lw_g (lw_at lw_m8 142 rfl) rfl
theorem q1931 : (Jvm.Cond.fieldLink "WellPromisesModel" (24 : Nat) "WellPromisesModel" "limit" "I") ∈ lw_all := lw_g (lw_at lw_m8 143 rfl) rfl
theorem q1932 : (Jvm.Cond.fieldLink "WellPromisesModel" (33 : Nat) "WellPromisesModel" "s" "[I") ∈ lw_all := lw_g (lw_at lw_m8 144 rfl) rfl
theorem q1933 : (Jvm.Cond.fieldLink "WellPromisesModel" (37 : Nat) "WellPromisesModel" "h" "[I") ∈ lw_all := lw_g (lw_at lw_m8 145 rfl) rfl
theorem q1934 : (Jvm.Cond.fieldLink "WellPromisesModel" (40 : Nat) "WellPromisesModel" "read" "[I") ∈ lw_all := lw_g (lw_at lw_m8 146 rfl) rfl
theorem q1935 : (Jvm.Cond.fieldLink "WellPromisesModel" (43 : Nat) "WellPromisesModel" "names" "[J") ∈ lw_all := lw_g (lw_at lw_m8 147 rfl) rfl
theorem q1936 : (Jvm.Cond.fieldLink "WellPromisesModel" (47 : Nat) "WellPromisesModel" "reserved" "[J") ∈ lw_all := lw_g (lw_at lw_m8 148 rfl) rfl
theorem q1937 : (Jvm.Cond.fieldLink "WellPromisesModel" (155 : Nat) "WellPromisesModel" "token" "I") ∈ lw_all := lw_g (lw_at lw_m8 149 rfl) rfl
theorem q1938 : (Jvm.Cond.fieldLink "WellPromisesModel" (149 : Nat) "WellPromisesModel" "at" "I") ∈ lw_all := lw_g (lw_at lw_m8 150 rfl) rfl
theorem q1939 : (Jvm.Cond.fieldLink "WellPromisesModel" (152 : Nat) "WellPromisesModel" "span" "I") ∈ lw_all := lw_g (lw_at lw_m8 151 rfl) rfl
theorem q1940 : (Jvm.Cond.fieldLink "WellPromisesModel" (165 : Nat) "WellPromisesModel" "number" "I") ∈ lw_all := lw_g (lw_at lw_m8 152 rfl) rfl
theorem q1941 : (Jvm.Cond.fieldLink "WellPromisesModel" (172 : Nat) "WellPromisesModel" "fault" "I") ∈ lw_all := lw_g (lw_at lw_m8 153 rfl) rfl
theorem q1942 : (Jvm.Cond.fieldLink "WellPromisesModel" (175 : Nat) "WellPromisesModel" "faultAt" "I") ∈ lw_all := lw_g (lw_at lw_m8 154 rfl) rfl
theorem q1943 : (Jvm.Cond.fieldLink "WellPromisesModel" (168 : Nat) "WellPromisesModel" "word" "J") ∈ lw_all := lw_g (lw_at lw_m8 155 rfl) rfl
theorem q1944 : (Jvm.Cond.fieldLink "WellPromisesModel" (191 : Nat) "WellPromisesModel" "got" "I") ∈ lw_all := lw_g (lw_at lw_m8 156 rfl) rfl
theorem q1945 : (Jvm.Cond.fieldLink "WellPromisesModel" (232 : Nat) "WellPromisesModel" "lines" "I") ∈ lw_all := lw_g (lw_at lw_m8 157 rfl) rfl
theorem q1946 : (Jvm.Cond.fieldLink "WellPromisesModel" (210 : Nat) "WellPromisesModel" "hasHours" "Z") ∈ lw_all := lw_g (lw_at lw_m8 158 rfl) rfl
theorem q1947 : (Jvm.Cond.fieldLink "WellPromisesModel" (50 : Nat) "WellPromisesModel" "far" "[I") ∈ lw_all := lw_g (lw_at lw_m8 159 rfl) rfl
theorem q1948 : (Jvm.Cond.fieldLink "WellPromisesModel" (53 : Nat) "WellPromisesModel" "undone" "[I") ∈ lw_all := lw_g (lw_at lw_m8 160 rfl) rfl
theorem q1949 : (Jvm.Cond.fieldLink "WellPromisesModel" (56 : Nat) "WellPromisesModel" "before" "[I") ∈ lw_all := lw_g (lw_at lw_m8 161 rfl) rfl
theorem q1950 : (Jvm.Cond.fieldLink "WellPromisesModel" (241 : Nat) "WellPromisesModel" "undoMany" "I") ∈ lw_all := lw_g (lw_at lw_m8 162 rfl) rfl
theorem q1951 : (Jvm.Cond.fieldLink "WellPromisesModel" (60 : Nat) "WellPromisesModel" "goings" "[I") ∈ lw_all := lw_g (lw_at lw_m8 163 rfl) rfl
theorem q1952 : (Jvm.Cond.fieldLink "WellPromisesModel" (63 : Nat) "WellPromisesModel" "due" "[I") ∈ lw_all := lw_g (lw_at lw_m8 164 rfl) rfl
theorem q1953 : (Jvm.Cond.fieldLink "WellPromisesModel" (66 : Nat) "WellPromisesModel" "planRow" "[I") ∈ lw_all := lw_g (lw_at lw_m8 165 rfl) rfl
theorem q1954 : (Jvm.Cond.fieldLink "WellPromisesModel" (326 : Nat) "WellPromisesModel" "dueMany" "I") ∈ lw_all := lw_g (lw_at lw_m8 166 rfl) rfl
theorem q1955 : (Jvm.Cond.fieldLink "WellPromisesModel" (357 : Nat) "WellPromisesModel" "planFrom" "I") ∈ lw_all := lw_g (lw_at lw_m8 167 rfl) rfl
theorem q1956 : (Jvm.Cond.fieldLink "WellPromisesModel" (360 : Nat) "WellPromisesModel" "planTill" "I") ∈ lw_all := lw_g (lw_at lw_m8 168 rfl) rfl
theorem q1957 : (Jvm.Cond.fieldLink "WellPromisesModel" (69 : Nat) "WellPromisesModel" "hears" "[I") ∈ lw_all := lw_g (lw_at lw_m8 169 rfl) rfl
theorem q1958 : (Jvm.Cond.fieldLink "WellPromisesModel" (369 : Nat) "WellPromisesModel" "fitMany" "I") ∈ lw_all := lw_g (lw_at lw_m8 170 rfl) rfl
theorem q1959 : (Jvm.Cond.fieldLink "WellPromisesModel" (372 : Nat) "WellPromisesModel" "fitBest" "I") ∈ lw_all := lw_g (lw_at lw_m8 171 rfl) rfl
theorem q1960 : (Jvm.Cond.fieldLink "WellPromisesModel" (382 : Nat) "WellPromisesModel" "seed" "I") ∈ lw_all := lw_g (lw_at lw_m8 172 rfl) rfl
theorem q1961 : (Jvm.Cond.fieldLink "WellPromisesModel" (398 : Nat) "WellPromisesModel" "told" "I") ∈ lw_all := lw_g (lw_at lw_m8 173 rfl) rfl
theorem q1962 : (Jvm.Cond.fieldLink "WellPromisesModel" (72 : Nat) "WellPromisesModel" "bookedAt" "[I") ∈ lw_all := lw_g (lw_at lw_m8 174 rfl) rfl
theorem q1963 : (Jvm.Cond.fieldLink "WellPromisesModel" (410 : Nat) "WellPromisesModel" "hasBooked" "Z") ∈ lw_all := lw_g (lw_at lw_m8 175 rfl) rfl
theorem q1964 : (Jvm.Cond.fieldLink "WellPromisesModel" (75 : Nat) "WellPromisesModel" "stack" "[I") ∈ lw_all := lw_g (lw_at lw_m8 176 rfl) rfl
theorem q1965 : (Jvm.Cond.fieldLink "WellPromisesModel" (413 : Nat) "WellPromisesModel" "codes" "I") ∈ lw_all := lw_g (lw_at lw_m8 177 rfl) rfl
theorem q1966 : (Jvm.Cond.fieldLink "WellPromisesModel" (429 : Nat) "WellPromisesModel" "ones" "I") ∈ lw_all := lw_g (lw_at lw_m8 178 rfl) rfl
theorem q1967 : (Jvm.Cond.fieldLink "WellPromisesModel" (416 : Nat) "WellPromisesModel" "top" "I") ∈ lw_all := lw_g (lw_at lw_m8 179 rfl) rfl
theorem q1968 : (Jvm.Cond.fieldLink "WellPromisesModel" (423 : Nat) "WellPromisesModel" "deep" "I") ∈ lw_all := lw_g (lw_at lw_m8 180 rfl) rfl
theorem q1969 : (Jvm.Cond.fieldLink "WellPromisesModel" (432 : Nat) "WellPromisesModel" "isWhole" "Z") ∈ lw_all := lw_g (lw_at lw_m8 181 rfl) rfl
theorem q1970 : (Jvm.Cond.fieldLink "WellPromisesModel" (78 : Nat) "WellPromisesModel" "truths" "[Z") ∈ lw_all := lw_g (lw_at lw_m8 182 rfl) rfl
theorem q1971 : (Jvm.Cond.fieldLink "WellPromisesModel" (82 : Nat) "WellPromisesModel" "kept" "[I") ∈ lw_all := lw_g (lw_at lw_m8 183 rfl) rfl
theorem q1972 : (Jvm.Cond.fieldLink "WellPromisesModel" (85 : Nat) "WellPromisesModel" "namesKept" "[J") ∈ lw_all := lw_g (lw_at lw_m8 184 rfl) rfl
theorem q1973 : (Jvm.Cond.fieldLink "WellPromisesModel" (88 : Nat) "WellPromisesModel" "areKept" "[Z") ∈ lw_all := lw_g (lw_at lw_m8 185 rfl) rfl
theorem q1974 : (Jvm.Cond.lays "WellPromisesModel" "WellPromisesModel" "thrown" "I") ∈ lw_all := lw_g (lw_at lw_m8 186 rfl) rfl
theorem q1975 : (Jvm.Cond.soleField "WellPromisesModel" "thrown") ∈ lw_all := lw_g (lw_at lw_m8 187 rfl) rfl
theorem q1976 : (Jvm.Cond.laysFinal "WellPromisesModel" "WellPromisesModel" "tape" "[B") ∈ lw_all := lw_g (lw_at lw_m8 188 rfl) rfl
theorem q1977 : (Jvm.Cond.soleField "WellPromisesModel" "tape") ∈ lw_all := lw_g (lw_at lw_m8 189 rfl) rfl
theorem q1978 : (Jvm.Cond.lays "WellPromisesModel" "WellPromisesModel" "length" "I") ∈ lw_all := lw_g (lw_at lw_m8 190 rfl) rfl
theorem q1979 : (Jvm.Cond.soleField "WellPromisesModel" "length") ∈ lw_all := lw_g (lw_at lw_m8 191 rfl) rfl
theorem q1980 : (Jvm.Cond.lays "WellPromisesModel" "WellPromisesModel" "size" "I") ∈ lw_all := lw_g (lw_at lw_m8 192 rfl) rfl
theorem q1981 : (Jvm.Cond.soleField "WellPromisesModel" "size") ∈ lw_all := lw_g (lw_at lw_m8 193 rfl) rfl
theorem q1982 : (Jvm.Cond.lays "WellPromisesModel" "WellPromisesModel" "p" "I") ∈ lw_all := lw_g (lw_at lw_m8 194 rfl) rfl
theorem q1983 : (Jvm.Cond.soleField "WellPromisesModel" "p") ∈ lw_all := lw_g (lw_at lw_m8 195 rfl) rfl
theorem q1984 : (Jvm.Cond.lays "WellPromisesModel" "WellPromisesModel" "limit" "I") ∈ lw_all := lw_g (lw_at lw_m8 196 rfl) rfl
theorem q1985 : (Jvm.Cond.soleField "WellPromisesModel" "limit") ∈ lw_all := lw_g (lw_at lw_m8 197 rfl) rfl
theorem q1986 : (Jvm.Cond.laysFinal "WellPromisesModel" "WellPromisesModel" "s" "[I") ∈ lw_all := lw_g (lw_at lw_m8 198 rfl) rfl
theorem q1987 : (Jvm.Cond.soleField "WellPromisesModel" "s") ∈ lw_all := lw_g (lw_at lw_m8 199 rfl) rfl
theorem q1988 : (Jvm.Cond.laysFinal "WellPromisesModel" "WellPromisesModel" "h" "[I") ∈ lw_all := lw_g (lw_at lw_m8 200 rfl) rfl
theorem q1989 : (Jvm.Cond.soleField "WellPromisesModel" "h") ∈ lw_all := lw_g (lw_at lw_m8 201 rfl) rfl
theorem q1990 : (Jvm.Cond.laysFinal "WellPromisesModel" "WellPromisesModel" "read" "[I") ∈ lw_all := lw_g (lw_at lw_m8 202 rfl) rfl
theorem q1991 : (Jvm.Cond.soleField "WellPromisesModel" "read") ∈ lw_all := lw_g (lw_at lw_m8 203 rfl) rfl
theorem q1992 : (Jvm.Cond.laysFinal "WellPromisesModel" "WellPromisesModel" "names" "[J") ∈ lw_all := lw_g (lw_at lw_m8 204 rfl) rfl
theorem q1993 : (Jvm.Cond.soleField "WellPromisesModel" "names") ∈ lw_all := lw_g (lw_at lw_m8 205 rfl) rfl
theorem q1994 : (Jvm.Cond.laysFinal "WellPromisesModel" "WellPromisesModel" "reserved" "[J") ∈ lw_all := lw_g (lw_at lw_m8 206 rfl) rfl
theorem q1995 : (Jvm.Cond.soleField "WellPromisesModel" "reserved") ∈ lw_all := lw_g (lw_at lw_m8 207 rfl) rfl
theorem q1996 : (Jvm.Cond.lays "WellPromisesModel" "WellPromisesModel" "token" "I") ∈ lw_all := lw_g (lw_at lw_m8 208 rfl) rfl
theorem q1997 : (Jvm.Cond.soleField "WellPromisesModel" "token") ∈ lw_all := lw_g (lw_at lw_m8 209 rfl) rfl
theorem q1998 : (Jvm.Cond.lays "WellPromisesModel" "WellPromisesModel" "at" "I") ∈ lw_all := lw_g (lw_at lw_m8 210 rfl) rfl
theorem q1999 : (Jvm.Cond.soleField "WellPromisesModel" "at") ∈ lw_all := lw_g (lw_at lw_m8 211 rfl) rfl
theorem q2000 : (Jvm.Cond.lays "WellPromisesModel" "WellPromisesModel" "span" "I") ∈ lw_all := lw_g (lw_at lw_m8 212 rfl) rfl
theorem q2001 : (Jvm.Cond.soleField "WellPromisesModel" "span") ∈ lw_all := lw_g (lw_at lw_m8 213 rfl) rfl
theorem q2002 : (Jvm.Cond.lays "WellPromisesModel" "WellPromisesModel" "number" "I") ∈ lw_all := lw_g (lw_at lw_m8 214 rfl) rfl
theorem q2003 : (Jvm.Cond.soleField "WellPromisesModel" "number") ∈ lw_all := lw_g (lw_at lw_m8 215 rfl) rfl
theorem q2004 : (Jvm.Cond.lays "WellPromisesModel" "WellPromisesModel" "fault" "I") ∈ lw_all := lw_g (lw_at lw_m8 216 rfl) rfl
theorem q2005 : (Jvm.Cond.soleField "WellPromisesModel" "fault") ∈ lw_all := lw_g (lw_at lw_m8 217 rfl) rfl
theorem q2006 : (Jvm.Cond.lays "WellPromisesModel" "WellPromisesModel" "faultAt" "I") ∈ lw_all := lw_g (lw_at lw_m8 218 rfl) rfl
theorem q2007 : (Jvm.Cond.soleField "WellPromisesModel" "faultAt") ∈ lw_all := lw_g (lw_at lw_m8 219 rfl) rfl
theorem q2008 : (Jvm.Cond.lays "WellPromisesModel" "WellPromisesModel" "word" "J") ∈ lw_all := lw_g (lw_at lw_m8 220 rfl) rfl
theorem q2009 : (Jvm.Cond.soleField "WellPromisesModel" "word") ∈ lw_all := lw_g (lw_at lw_m8 221 rfl) rfl
theorem q2010 : (Jvm.Cond.lays "WellPromisesModel" "WellPromisesModel" "got" "I") ∈ lw_all := lw_g (lw_at lw_m8 222 rfl) rfl
theorem q2011 : (Jvm.Cond.soleField "WellPromisesModel" "got") ∈ lw_all := lw_g (lw_at lw_m8 223 rfl) rfl
theorem q2012 : (Jvm.Cond.lays "WellPromisesModel" "WellPromisesModel" "lines" "I") ∈ lw_all := lw_g (lw_at lw_m8 224 rfl) rfl
theorem q2013 : (Jvm.Cond.soleField "WellPromisesModel" "lines") ∈ lw_all := lw_g (lw_at lw_m8 225 rfl) rfl
theorem q2014 : (Jvm.Cond.lays "WellPromisesModel" "WellPromisesModel" "hasHours" "Z") ∈ lw_all := lw_g (lw_at lw_m8 226 rfl) rfl
theorem q2015 : (Jvm.Cond.soleField "WellPromisesModel" "hasHours") ∈ lw_all := lw_g (lw_at lw_m8 227 rfl) rfl
theorem q2016 : (Jvm.Cond.laysFinal "WellPromisesModel" "WellPromisesModel" "far" "[I") ∈ lw_all := lw_g (lw_at lw_m8 228 rfl) rfl
theorem q2017 : (Jvm.Cond.soleField "WellPromisesModel" "far") ∈ lw_all := lw_g (lw_at lw_m8 229 rfl) rfl
theorem q2018 : (Jvm.Cond.laysFinal "WellPromisesModel" "WellPromisesModel" "undone" "[I") ∈ lw_all := lw_g (lw_at lw_m8 230 rfl) rfl
theorem q2019 : (Jvm.Cond.soleField "WellPromisesModel" "undone") ∈ lw_all := lw_g (lw_at lw_m8 231 rfl) rfl
theorem q2020 : (Jvm.Cond.laysFinal "WellPromisesModel" "WellPromisesModel" "before" "[I") ∈ lw_all := lw_g (lw_at lw_m8 232 rfl) rfl
theorem q2021 : (Jvm.Cond.soleField "WellPromisesModel" "before") ∈ lw_all := lw_g (lw_at lw_m8 233 rfl) rfl
theorem q2022 : (Jvm.Cond.lays "WellPromisesModel" "WellPromisesModel" "undoMany" "I") ∈ lw_all := lw_g (lw_at lw_m8 234 rfl) rfl
theorem q2023 : (Jvm.Cond.soleField "WellPromisesModel" "undoMany") ∈ lw_all := lw_g (lw_at lw_m8 235 rfl) rfl
theorem q2024 : (Jvm.Cond.laysFinal "WellPromisesModel" "WellPromisesModel" "goings" "[I") ∈ lw_all := lw_g (lw_at lw_m8 236 rfl) rfl
theorem q2025 : (Jvm.Cond.soleField "WellPromisesModel" "goings") ∈ lw_all := lw_g (lw_at lw_m8 237 rfl) rfl
theorem q2026 : (Jvm.Cond.laysFinal "WellPromisesModel" "WellPromisesModel" "due" "[I") ∈ lw_all := lw_g (lw_at lw_m8 238 rfl) rfl
theorem q2027 : (Jvm.Cond.soleField "WellPromisesModel" "due") ∈ lw_all := lw_g (lw_at lw_m8 239 rfl) rfl
theorem q2028 : (Jvm.Cond.laysFinal "WellPromisesModel" "WellPromisesModel" "planRow" "[I") ∈ lw_all := lw_g (lw_at lw_m9 0 rfl) rfl
theorem q2029 : (Jvm.Cond.soleField "WellPromisesModel" "planRow") ∈ lw_all := lw_g (lw_at lw_m9 1 rfl) rfl
theorem q2030 : (Jvm.Cond.lays "WellPromisesModel" "WellPromisesModel" "dueMany" "I") ∈ lw_all := lw_g (lw_at lw_m9 2 rfl) rfl
theorem q2031 : (Jvm.Cond.soleField "WellPromisesModel" "dueMany") ∈ lw_all := lw_g (lw_at lw_m9 3 rfl) rfl
theorem q2032 : (Jvm.Cond.lays "WellPromisesModel" "WellPromisesModel" "planFrom" "I") ∈ lw_all := lw_g (lw_at lw_m9 4 rfl) rfl
theorem q2033 : (Jvm.Cond.soleField "WellPromisesModel" "planFrom") ∈ lw_all := lw_g (lw_at lw_m9 5 rfl) rfl
theorem q2034 : (Jvm.Cond.lays "WellPromisesModel" "WellPromisesModel" "planTill" "I") ∈ lw_all := lw_g (lw_at lw_m9 6 rfl) rfl
theorem q2035 : (Jvm.Cond.soleField "WellPromisesModel" "planTill") ∈ lw_all := lw_g (lw_at lw_m9 7 rfl) rfl
theorem q2036 : (Jvm.Cond.laysFinal "WellPromisesModel" "WellPromisesModel" "hears" "[I") ∈ lw_all := lw_g (lw_at lw_m9 8 rfl) rfl
theorem q2037 : (Jvm.Cond.soleField "WellPromisesModel" "hears") ∈ lw_all := lw_g (lw_at lw_m9 9 rfl) rfl
theorem q2038 : (Jvm.Cond.lays "WellPromisesModel" "WellPromisesModel" "fitMany" "I") ∈ lw_all := lw_g (lw_at lw_m9 10 rfl) rfl
theorem q2039 : (Jvm.Cond.soleField "WellPromisesModel" "fitMany") ∈ lw_all := lw_g (lw_at lw_m9 11 rfl) rfl
theorem q2040 : (Jvm.Cond.lays "WellPromisesModel" "WellPromisesModel" "fitBest" "I") ∈ lw_all := lw_g (lw_at lw_m9 12 rfl) rfl
theorem q2041 : (Jvm.Cond.soleField "WellPromisesModel" "fitBest") ∈ lw_all := lw_g (lw_at lw_m9 13 rfl) rfl
theorem q2042 : (Jvm.Cond.lays "WellPromisesModel" "WellPromisesModel" "seed" "I") ∈ lw_all := lw_g (lw_at lw_m9 14 rfl) rfl
theorem q2043 : (Jvm.Cond.soleField "WellPromisesModel" "seed") ∈ lw_all := lw_g (lw_at lw_m9 15 rfl) rfl
theorem q2044 : (Jvm.Cond.lays "WellPromisesModel" "WellPromisesModel" "told" "I") ∈ lw_all := lw_g (lw_at lw_m9 16 rfl) rfl
theorem q2045 : (Jvm.Cond.soleField "WellPromisesModel" "told") ∈ lw_all := lw_g (lw_at lw_m9 17 rfl) rfl
theorem q2046 : (Jvm.Cond.laysFinal "WellPromisesModel" "WellPromisesModel" "bookedAt" "[I") ∈ lw_all := lw_g (lw_at lw_m9 18 rfl) rfl
theorem q2047 : (Jvm.Cond.soleField "WellPromisesModel" "bookedAt") ∈ lw_all := lw_g (lw_at lw_m9 19 rfl) rfl
theorem q2048 : (Jvm.Cond.lays "WellPromisesModel" "WellPromisesModel" "hasBooked" "Z") ∈ lw_all := lw_g (lw_at lw_m9 20 rfl) rfl
theorem q2049 : (Jvm.Cond.soleField "WellPromisesModel" "hasBooked") ∈ lw_all := lw_g (lw_at lw_m9 21 rfl) rfl
theorem q2050 : (Jvm.Cond.laysFinal "WellPromisesModel" "WellPromisesModel" "stack" "[I") ∈ lw_all := lw_g (lw_at lw_m9 22 rfl) rfl
theorem q2051 : (Jvm.Cond.soleField "WellPromisesModel" "stack") ∈ lw_all := lw_g (lw_at lw_m9 23 rfl) rfl
theorem q2052 : (Jvm.Cond.lays "WellPromisesModel" "WellPromisesModel" "codes" "I") ∈ lw_all := lw_g (lw_at lw_m9 24 rfl) rfl
theorem q2053 : (Jvm.Cond.soleField "WellPromisesModel" "codes") ∈ lw_all := lw_g (lw_at lw_m9 25 rfl) rfl
theorem q2054 : (Jvm.Cond.lays "WellPromisesModel" "WellPromisesModel" "ones" "I") ∈ lw_all := lw_g (lw_at lw_m9 26 rfl) rfl
theorem q2055 : (Jvm.Cond.soleField "WellPromisesModel" "ones") ∈ lw_all := lw_g (lw_at lw_m9 27 rfl) rfl
theorem q2056 : (Jvm.Cond.lays "WellPromisesModel" "WellPromisesModel" "top" "I") ∈ lw_all := lw_g (lw_at lw_m9 28 rfl) rfl
theorem q2057 : (Jvm.Cond.soleField "WellPromisesModel" "top") ∈ lw_all := lw_g (lw_at lw_m9 29 rfl) rfl
theorem q2058 : (Jvm.Cond.lays "WellPromisesModel" "WellPromisesModel" "deep" "I") ∈ lw_all := lw_g (lw_at lw_m9 30 rfl) rfl
theorem q2059 : (Jvm.Cond.soleField "WellPromisesModel" "deep") ∈ lw_all := lw_g (lw_at lw_m9 31 rfl) rfl
theorem q2060 : (Jvm.Cond.lays "WellPromisesModel" "WellPromisesModel" "isWhole" "Z") ∈ lw_all := lw_g (lw_at lw_m9 32 rfl) rfl
theorem q2061 : (Jvm.Cond.soleField "WellPromisesModel" "isWhole") ∈ lw_all := lw_g (lw_at lw_m9 33 rfl) rfl
theorem q2062 : (Jvm.Cond.laysFinal "WellPromisesModel" "WellPromisesModel" "truths" "[Z") ∈ lw_all := lw_g (lw_at lw_m9 34 rfl) rfl
theorem q2063 : (Jvm.Cond.soleField "WellPromisesModel" "truths") ∈ lw_all := lw_g (lw_at lw_m9 35 rfl) rfl
theorem q2064 : (Jvm.Cond.laysFinal "WellPromisesModel" "WellPromisesModel" "kept" "[I") ∈ lw_all := lw_g (lw_at lw_m9 36 rfl) rfl
theorem q2065 : (Jvm.Cond.soleField "WellPromisesModel" "kept") ∈ lw_all := lw_g (lw_at lw_m9 37 rfl) rfl
theorem q2066 : (Jvm.Cond.laysFinal "WellPromisesModel" "WellPromisesModel" "namesKept" "[J") ∈ lw_all := lw_g (lw_at lw_m9 38 rfl) rfl
theorem q2067 : (Jvm.Cond.soleField "WellPromisesModel" "namesKept") ∈ lw_all := lw_g (lw_at lw_m9 39 rfl) rfl
theorem q2068 : (Jvm.Cond.laysFinal "WellPromisesModel" "WellPromisesModel" "areKept" "[Z") ∈ lw_all := lw_g (lw_at lw_m9 40 rfl) rfl
theorem q2069 : (Jvm.Cond.soleField "WellPromisesModel" "areKept") ∈ lw_all := lw_g (lw_at lw_m9 41 rfl) rfl
theorem q2070 : (Jvm.Cond.superclass "WellPromisesModel" "java/lang/Object") ∈ lw_all := lw_g (lw_at lw_m9 42 rfl) rfl
theorem q2073 : (Jvm.Cond.instanceMethod ({ cls := "WellPromisesModel", name := "house", desc := "()I" } : Jvm.MethodName)) ∈ lw_all := lw_g (lw_at lw_m9 45 rfl) rfl
theorem q2074 : (Jvm.Cond.selects "WellPromisesModel" ({ cls := "WellPromisesModel", name := "house", desc := "()I" } : Jvm.MethodName) ({ cls := "WellPromisesModel", name := "house", desc := "()I" } : Jvm.MethodName)) ∈ lw_all := lw_g (lw_at lw_m9 46 rfl) rfl
theorem q2075 : (Jvm.Cond.code ({ cls := "WellPromisesModel", name := "house", desc := "()I" } : Jvm.MethodName) prog_26_method_28_code (2 : Nat) (Option.some Jvm.ClassFile.FieldType.int)) ∈ lw_all := lw_g (lw_at lw_m9 47 rfl) rfl
theorem q2076 : (Jvm.Cond.methodLink "WellPromisesModel" (229 : Nat) ({ cls := "WellPromisesModel", name := "taken", desc := "(I)V" } : Jvm.MethodName)) ∈ lw_all := lw_g (lw_at lw_m9 48 rfl) rfl
theorem q2077 : (Jvm.Cond.privateMethod ({ cls := "WellPromisesModel", name := "taken", desc := "(I)V" } : Jvm.MethodName)) ∈ lw_tbl := lw_at lw_m9 49 rfl
theorem q2078 : (Jvm.Cond.instanceMethod ({ cls := "WellPromisesModel", name := "taken", desc := "(I)V" } : Jvm.MethodName)) ∈ lw_all := lw_g (lw_at lw_m9 50 rfl) rfl
theorem q2079 : (Jvm.Cond.code ({ cls := "WellPromisesModel", name := "taken", desc := "(I)V" } : Jvm.MethodName) prog_26_method_6_code (2 : Nat) (Option.none : Option Jvm.ClassFile.FieldType)) ∈ lw_all := lw_g (lw_at lw_m9 51 rfl) rfl
theorem q2080 : (Jvm.Cond.methodLink "WellPromisesModel" (184 : Nat) ({ cls := "WellPromisesModel", name := "next", desc := "()V" } : Jvm.MethodName)) ∈ lw_all := lw_g (lw_at lw_m9 52 rfl) rfl
theorem q2081 : (Jvm.Cond.privateMethod ({ cls := "WellPromisesModel", name := "next", desc := "()V" } : Jvm.MethodName)) ∈ lw_tbl := lw_at lw_m9 53 rfl
theorem q2082 : (Jvm.Cond.instanceMethod ({ cls := "WellPromisesModel", name := "next", desc := "()V" } : Jvm.MethodName)) ∈ lw_all := lw_g (lw_at lw_m9 54 rfl) rfl
theorem q2083 : (Jvm.Cond.code ({ cls := "WellPromisesModel", name := "next", desc := "()V" } : Jvm.MethodName) prog_26_method_15_code (4 : Nat) (Option.none : Option Jvm.ClassFile.FieldType)) ∈ lw_all := lw_g (lw_at lw_m9 55 rfl) rfl
theorem q2084 : (Jvm.Cond.methodLink "WellPromisesModel" (145 : Nat) ({ cls := "WellPromisesModel", name := "peek", desc := "()I" } : Jvm.MethodName)) ∈ lw_all := lw_g (lw_at lw_m9 56 rfl) rfl
theorem q2085 : (Jvm.Cond.privateMethod ({ cls := "WellPromisesModel", name := "peek", desc := "()I" } : Jvm.MethodName)) ∈ lw_tbl := lw_at lw_m9 57 rfl
theorem q2086 : (Jvm.Cond.instanceMethod ({ cls := "WellPromisesModel", name := "peek", desc := "()I" } : Jvm.MethodName)) ∈ lw_all := lw_g (lw_at lw_m9 58 rfl) rfl
theorem q2087 : (Jvm.Cond.code ({ cls := "WellPromisesModel", name := "peek", desc := "()I" } : Jvm.MethodName) prog_26_method_12_code (1 : Nat) (Option.some Jvm.ClassFile.FieldType.int)) ∈ lw_all := lw_g (lw_at lw_m9 59 rfl) rfl
theorem q2088 : (Jvm.Cond.methodLink "WellPromisesModel" (158 : Nat) ({ cls := "WellPromisesModel", name := "isSmall", desc := "(I)Z" } : Jvm.MethodName)) ∈ lw_all := lw_g (lw_at lw_m9 60 rfl) rfl
theorem q2089 : (Jvm.Cond.static ({ cls := "WellPromisesModel", name := "isSmall", desc := "(I)Z" } : Jvm.MethodName)) ∈ lw_all := lw_g (lw_at lw_m9 61 rfl) rfl
theorem q2090 : (Jvm.Cond.code ({ cls := "WellPromisesModel", name := "isSmall", desc := "(I)Z" } : Jvm.MethodName) prog_26_method_13_code (1 : Nat) (Option.some Jvm.ClassFile.FieldType.boolean)) ∈ lw_all := lw_g (lw_at lw_m9 62 rfl) rfl
theorem q2091 : (Jvm.Cond.methodLink "WellPromisesModel" (162 : Nat) ({ cls := "WellPromisesModel", name := "isDigit", desc := "(I)Z" } : Jvm.MethodName)) ∈ lw_all := lw_g (lw_at lw_m9 63 rfl) rfl
theorem q2092 : (Jvm.Cond.static ({ cls := "WellPromisesModel", name := "isDigit", desc := "(I)Z" } : Jvm.MethodName)) ∈ lw_all := lw_g (lw_at lw_m9 64 rfl) rfl
theorem q2093 : (Jvm.Cond.code ({ cls := "WellPromisesModel", name := "isDigit", desc := "(I)Z" } : Jvm.MethodName) prog_26_method_14_code (1 : Nat) (Option.some Jvm.ClassFile.FieldType.boolean)) ∈ lw_all := lw_g (lw_at lw_m9 65 rfl) rfl
theorem q2094 : (Jvm.Cond.methodLink "WellPromisesModel" (235 : Nat) ({ cls := "WellPromisesModel", name := "line", desc := "()Z" } : Jvm.MethodName)) ∈ lw_all := lw_g (lw_at lw_m9 66 rfl) rfl
theorem q2095 : (Jvm.Cond.privateMethod ({ cls := "WellPromisesModel", name := "line", desc := "()Z" } : Jvm.MethodName)) ∈ lw_tbl := lw_at lw_m9 67 rfl
theorem q2096 : (Jvm.Cond.instanceMethod ({ cls := "WellPromisesModel", name := "line", desc := "()Z" } : Jvm.MethodName)) ∈ lw_all := lw_g (lw_at lw_m9 68 rfl) rfl
theorem q2097 : (Jvm.Cond.code ({ cls := "WellPromisesModel", name := "line", desc := "()Z" } : Jvm.MethodName) prog_26_method_26_code (4 : Nat) (Option.some Jvm.ClassFile.FieldType.boolean)) ∈ lw_all := lw_g (lw_at lw_m9 69 rfl) rfl
theorem q2098 : (Jvm.Cond.methodLink "WellPromisesModel" (206 : Nat) ({ cls := "WellPromisesModel", name := "isWord", desc := "(J)Z" } : Jvm.MethodName)) ∈ lw_all := lw_g (lw_at lw_m9 70 rfl) rfl
theorem q2099 : (Jvm.Cond.privateMethod ({ cls := "WellPromisesModel", name := "isWord", desc := "(J)Z" } : Jvm.MethodName)) ∈ lw_tbl := lw_at lw_m9 71 rfl
theorem q2100 : (Jvm.Cond.instanceMethod ({ cls := "WellPromisesModel", name := "isWord", desc := "(J)Z" } : Jvm.MethodName)) ∈ lw_all := lw_g (lw_at lw_m9 72 rfl) rfl
theorem q2101 : (Jvm.Cond.code ({ cls := "WellPromisesModel", name := "isWord", desc := "(J)Z" } : Jvm.MethodName) prog_26_method_17_code (3 : Nat) (Option.some Jvm.ClassFile.FieldType.boolean)) ∈ lw_all := lw_g (lw_at lw_m9 73 rfl) rfl
theorem q2102 : (Jvm.Cond.methodLink "WellPromisesModel" (181 : Nat) ({ cls := "WellPromisesModel", name := "bad", desc := "(I)Z" } : Jvm.MethodName)) ∈ lw_all := lw_g (lw_at lw_m9 74 rfl) rfl
theorem q2103 : (Jvm.Cond.privateMethod ({ cls := "WellPromisesModel", name := "bad", desc := "(I)Z" } : Jvm.MethodName)) ∈ lw_tbl := lw_at lw_m9 75 rfl
theorem q2104 : (Jvm.Cond.instanceMethod ({ cls := "WellPromisesModel", name := "bad", desc := "(I)Z" } : Jvm.MethodName)) ∈ lw_all := lw_g (lw_at lw_m9 76 rfl) rfl
theorem q2105 : (Jvm.Cond.code ({ cls := "WellPromisesModel", name := "bad", desc := "(I)Z" } : Jvm.MethodName) prog_26_method_16_code (2 : Nat) (Option.some Jvm.ClassFile.FieldType.boolean)) ∈ lw_all := lw_g (lw_at lw_m9 77 rfl) rfl
theorem q2106 : (Jvm.Cond.methodLink "WellPromisesModel" (214 : Nat) ({ cls := "WellPromisesModel", name := "takes", desc := "(II)Z" } : Jvm.MethodName)) ∈ lw_all := lw_g (lw_at lw_m9 78 rfl) rfl
theorem q2107 : (Jvm.Cond.privateMethod ({ cls := "WellPromisesModel", name := "takes", desc := "(II)Z" } : Jvm.MethodName)) ∈ lw_tbl := lw_at lw_m9 79 rfl
theorem q2108 : (Jvm.Cond.instanceMethod ({ cls := "WellPromisesModel", name := "takes", desc := "(II)Z" } : Jvm.MethodName)) ∈ lw_all := lw_g (lw_at lw_m9 80 rfl) rfl
theorem q2109 : (Jvm.Cond.code ({ cls := "WellPromisesModel", name := "takes", desc := "(II)Z" } : Jvm.MethodName) prog_26_method_21_code (3 : Nat) (Option.some Jvm.ClassFile.FieldType.boolean)) ∈ lw_all := lw_g (lw_at lw_m9 81 rfl) rfl
theorem q2110 : (Jvm.Cond.methodLink "WellPromisesModel" (187 : Nat) ({ cls := "WellPromisesModel", name := "isIn", desc := "(III)Z" } : Jvm.MethodName)) ∈ lw_all := lw_g (lw_at lw_m9 82 rfl) rfl
theorem q2111 : (Jvm.Cond.static ({ cls := "WellPromisesModel", name := "isIn", desc := "(III)Z" } : Jvm.MethodName)) ∈ lw_all := lw_g (lw_at lw_m9 83 rfl) rfl
theorem q2112 : (Jvm.Cond.code ({ cls := "WellPromisesModel", name := "isIn", desc := "(III)Z" } : Jvm.MethodName) prog_26_method_7_code (3 : Nat) (Option.some Jvm.ClassFile.FieldType.boolean)) ∈ lw_all := lw_g (lw_at lw_m9 84 rfl) rfl
theorem q2113 : (Jvm.Cond.methodLink "WellPromisesModel" (217 : Nat) ({ cls := "WellPromisesModel", name := "fresh", desc := "(I)Z" } : Jvm.MethodName)) ∈ lw_all := lw_g (lw_at lw_m9 85 rfl) rfl
theorem q2114 : (Jvm.Cond.privateMethod ({ cls := "WellPromisesModel", name := "fresh", desc := "(I)Z" } : Jvm.MethodName)) ∈ lw_tbl := lw_at lw_m9 86 rfl
theorem q2115 : (Jvm.Cond.instanceMethod ({ cls := "WellPromisesModel", name := "fresh", desc := "(I)Z" } : Jvm.MethodName)) ∈ lw_all := lw_g (lw_at lw_m9 87 rfl) rfl
theorem q2116 : (Jvm.Cond.code ({ cls := "WellPromisesModel", name := "fresh", desc := "(I)Z" } : Jvm.MethodName) prog_26_method_23_code (2 : Nat) (Option.some Jvm.ClassFile.FieldType.boolean)) ∈ lw_all := lw_g (lw_at lw_m9 88 rfl) rfl
theorem q2117 : (Jvm.Cond.methodLink "WellPromisesModel" (194 : Nat) ({ cls := "WellPromisesModel", name := "isName", desc := "()Z" } : Jvm.MethodName)) ∈ lw_all := lw_g (lw_at lw_m9 89 rfl) rfl
theorem q2118 : (Jvm.Cond.privateMethod ({ cls := "WellPromisesModel", name := "isName", desc := "()Z" } : Jvm.MethodName)) ∈ lw_tbl := lw_at lw_m9 90 rfl
theorem q2119 : (Jvm.Cond.instanceMethod ({ cls := "WellPromisesModel", name := "isName", desc := "()Z" } : Jvm.MethodName)) ∈ lw_all := lw_g (lw_at lw_m9 91 rfl) rfl
theorem q2120 : (Jvm.Cond.code ({ cls := "WellPromisesModel", name := "isName", desc := "()Z" } : Jvm.MethodName) prog_26_method_20_code (3 : Nat) (Option.some Jvm.ClassFile.FieldType.boolean)) ∈ lw_all := lw_g (lw_at lw_m9 92 rfl) rfl
theorem q2121 : (Jvm.Cond.methodLink "WellPromisesModel" (198 : Nat) ({ cls := "WellPromisesModel", name := "find", desc := "(II)I" } : Jvm.MethodName)) ∈ lw_all := lw_g (lw_at lw_m9 93 rfl) rfl
theorem q2122 : (Jvm.Cond.privateMethod ({ cls := "WellPromisesModel", name := "find", desc := "(II)I" } : Jvm.MethodName)) ∈ lw_tbl := lw_at lw_m9 94 rfl
theorem q2123 : (Jvm.Cond.instanceMethod ({ cls := "WellPromisesModel", name := "find", desc := "(II)I" } : Jvm.MethodName)) ∈ lw_all := lw_g (lw_at lw_m9 95 rfl) rfl
theorem q2124 : (Jvm.Cond.code ({ cls := "WellPromisesModel", name := "find", desc := "(II)I" } : Jvm.MethodName) prog_26_method_22_code (4 : Nat) (Option.some Jvm.ClassFile.FieldType.int)) ∈ lw_all := lw_g (lw_at lw_m9 96 rfl) rfl
theorem q2125 : (Jvm.Cond.methodLink "WellPromisesModel" (220 : Nat) ({ cls := "WellPromisesModel", name := "takesName", desc := "(II)Z" } : Jvm.MethodName)) ∈ lw_all := lw_g (lw_at lw_m9 97 rfl) rfl
theorem q2126 : (Jvm.Cond.privateMethod ({ cls := "WellPromisesModel", name := "takesName", desc := "(II)Z" } : Jvm.MethodName)) ∈ lw_tbl := lw_at lw_m9 98 rfl
theorem q2127 : (Jvm.Cond.instanceMethod ({ cls := "WellPromisesModel", name := "takesName", desc := "(II)Z" } : Jvm.MethodName)) ∈ lw_all := lw_g (lw_at lw_m9 99 rfl) rfl
theorem q2128 : (Jvm.Cond.code ({ cls := "WellPromisesModel", name := "takesName", desc := "(II)Z" } : Jvm.MethodName) prog_26_method_25_code (3 : Nat) (Option.some Jvm.ClassFile.FieldType.boolean)) ∈ lw_all := lw_g (lw_at lw_m9 100 rfl) rfl
theorem q2129 : (Jvm.Cond.methodLink "WellPromisesModel" (202 : Nat) ({ cls := "WellPromisesModel", name := "looksAt", desc := "(II)Z" } : Jvm.MethodName)) ∈ lw_all := lw_g (lw_at lw_m9 101 rfl) rfl
theorem q2130 : (Jvm.Cond.privateMethod ({ cls := "WellPromisesModel", name := "looksAt", desc := "(II)Z" } : Jvm.MethodName)) ∈ lw_tbl := lw_at lw_m9 102 rfl
theorem q2131 : (Jvm.Cond.instanceMethod ({ cls := "WellPromisesModel", name := "looksAt", desc := "(II)Z" } : Jvm.MethodName)) ∈ lw_all := lw_g (lw_at lw_m9 103 rfl) rfl
theorem q2132 : (Jvm.Cond.code ({ cls := "WellPromisesModel", name := "looksAt", desc := "(II)Z" } : Jvm.MethodName) prog_26_method_24_code (3 : Nat) (Option.some Jvm.ClassFile.FieldType.boolean)) ∈ lw_all := lw_g (lw_at lw_m9 104 rfl) rfl
theorem q2133 : (Jvm.Cond.methodLink "WellPromisesModel" (223 : Nat) ({ cls := "WellPromisesModel", name := "bitOf", desc := "(II)Z" } : Jvm.MethodName)) ∈ lw_all := lw_g (lw_at lw_m9 105 rfl) rfl
theorem q2134 : (Jvm.Cond.static ({ cls := "WellPromisesModel", name := "bitOf", desc := "(II)Z" } : Jvm.MethodName)) ∈ lw_all := lw_g (lw_at lw_m9 106 rfl) rfl
theorem q2135 : (Jvm.Cond.code ({ cls := "WellPromisesModel", name := "bitOf", desc := "(II)Z" } : Jvm.MethodName) prog_26_method_8_code (2 : Nat) (Option.some Jvm.ClassFile.FieldType.boolean)) ∈ lw_all := lw_g (lw_at lw_m9 107 rfl) rfl
theorem q2136 : (Jvm.Cond.methodLink "WellPromisesModel" (226 : Nat) ({ cls := "WellPromisesModel", name := "readPromise", desc := "()Z" } : Jvm.MethodName)) ∈ lw_all := lw_g (lw_at lw_m9 108 rfl) rfl
theorem q2137 : (Jvm.Cond.privateMethod ({ cls := "WellPromisesModel", name := "readPromise", desc := "()Z" } : Jvm.MethodName)) ∈ lw_tbl := lw_at lw_m9 109 rfl
theorem q2138 : (Jvm.Cond.instanceMethod ({ cls := "WellPromisesModel", name := "readPromise", desc := "()Z" } : Jvm.MethodName)) ∈ lw_all := lw_g (lw_at lw_m9 110 rfl) rfl
theorem q2139 : (Jvm.Cond.code ({ cls := "WellPromisesModel", name := "readPromise", desc := "()Z" } : Jvm.MethodName) prog_26_method_27_code (2 : Nat) (Option.some Jvm.ClassFile.FieldType.boolean)) ∈ lw_all := lw_g (lw_at lw_m9 111 rfl) rfl
theorem q2140 : (Jvm.Cond.methodLink "WellPromisesModel" (238 : Nat) ({ cls := "WellPromisesModel", name := "sign", desc := "(I)Z" } : Jvm.MethodName)) ∈ lw_all := lw_g (lw_at lw_m9 112 rfl) rfl
theorem q2141 : (Jvm.Cond.privateMethod ({ cls := "WellPromisesModel", name := "sign", desc := "(I)Z" } : Jvm.MethodName)) ∈ lw_tbl := lw_at lw_m9 113 rfl
theorem q2142 : (Jvm.Cond.instanceMethod ({ cls := "WellPromisesModel", name := "sign", desc := "(I)Z" } : Jvm.MethodName)) ∈ lw_all := lw_g (lw_at lw_m9 114 rfl) rfl
theorem q2143 : (Jvm.Cond.code ({ cls := "WellPromisesModel", name := "sign", desc := "(I)Z" } : Jvm.MethodName) prog_26_method_19_code (2 : Nat) (Option.some Jvm.ClassFile.FieldType.boolean)) ∈ lw_all := lw_g (lw_at lw_m9 115 rfl) rfl
theorem q2144 : (Jvm.Cond.methodLink "WellPromisesModel" (178 : Nat) ({ cls := "WellPromisesModel", name := "isSign", desc := "(I)Z" } : Jvm.MethodName)) ∈ lw_all := lw_g (lw_at lw_m9 116 rfl) rfl
theorem q2145 : (Jvm.Cond.privateMethod ({ cls := "WellPromisesModel", name := "isSign", desc := "(I)Z" } : Jvm.MethodName)) ∈ lw_tbl := lw_at lw_m9 117 rfl
theorem q2146 : (Jvm.Cond.instanceMethod ({ cls := "WellPromisesModel", name := "isSign", desc := "(I)Z" } : Jvm.MethodName)) ∈ lw_all := lw_g (lw_at lw_m9 118 rfl) rfl
theorem q2147 : (Jvm.Cond.code ({ cls := "WellPromisesModel", name := "isSign", desc := "(I)Z" } : Jvm.MethodName) prog_26_method_18_code (2 : Nat) (Option.some Jvm.ClassFile.FieldType.boolean)) ∈ lw_all := lw_g (lw_at lw_m9 119 rfl) rfl
theorem q2149 : (Jvm.Cond.instanceMethod ({ cls := "WellPromisesModel", name := "fault", desc := "()I" } : Jvm.MethodName)) ∈ lw_all := lw_g (lw_at lw_m9 121 rfl) rfl
theorem q2150 : (Jvm.Cond.selects "WellPromisesModel" ({ cls := "WellPromisesModel", name := "fault", desc := "()I" } : Jvm.MethodName) ({ cls := "WellPromisesModel", name := "fault", desc := "()I" } : Jvm.MethodName)) ∈ lw_all := lw_g (lw_at lw_m9 122 rfl) rfl
theorem q2151 : (Jvm.Cond.code ({ cls := "WellPromisesModel", name := "fault", desc := "()I" } : Jvm.MethodName) prog_26_method_29_code (1 : Nat) (Option.some Jvm.ClassFile.FieldType.int)) ∈ lw_all := lw_g (lw_at lw_m9 123 rfl) rfl
theorem q2153 : (Jvm.Cond.instanceMethod ({ cls := "WellPromisesModel", name := "promise", desc := "(II)I" } : Jvm.MethodName)) ∈ lw_all := lw_g (lw_at lw_m9 125 rfl) rfl
theorem q2154 : (Jvm.Cond.selects "WellPromisesModel" ({ cls := "WellPromisesModel", name := "promise", desc := "(II)I" } : Jvm.MethodName) ({ cls := "WellPromisesModel", name := "promise", desc := "(II)I" } : Jvm.MethodName)) ∈ lw_all := lw_g (lw_at lw_m9 126 rfl) rfl
theorem q2155 : (Jvm.Cond.code ({ cls := "WellPromisesModel", name := "promise", desc := "(II)I" } : Jvm.MethodName) prog_26_method_35_code (3 : Nat) (Option.some Jvm.ClassFile.FieldType.int)) ∈ lw_all := lw_g (lw_at lw_m9 127 rfl) rfl
theorem q2156 : (Jvm.Cond.methodLink "WellPromisesModel" (244 : Nat) ({ cls := "WellPromisesModel", name := "isPromise", desc := "(I)Z" } : Jvm.MethodName)) ∈ lw_all := lw_g (lw_at lw_m9 128 rfl) rfl
theorem q2157 : (Jvm.Cond.privateMethod ({ cls := "WellPromisesModel", name := "isPromise", desc := "(I)Z" } : Jvm.MethodName)) ∈ lw_tbl := lw_at lw_m9 129 rfl
theorem q2158 : (Jvm.Cond.instanceMethod ({ cls := "WellPromisesModel", name := "isPromise", desc := "(I)Z" } : Jvm.MethodName)) ∈ lw_all := lw_g (lw_at lw_m9 130 rfl) rfl
theorem q2159 : (Jvm.Cond.code ({ cls := "WellPromisesModel", name := "isPromise", desc := "(I)Z" } : Jvm.MethodName) prog_26_method_33_code (2 : Nat) (Option.some Jvm.ClassFile.FieldType.boolean)) ∈ lw_all := lw_g (lw_at lw_m9 131 rfl) rfl
theorem q2160 : (Jvm.Cond.methodLink "WellPromisesModel" (247 : Nat) ({ cls := "WellPromisesModel", name := "throwsIf", desc := "(Z)Z" } : Jvm.MethodName)) ∈ lw_all := lw_g (lw_at lw_m9 132 rfl) rfl
theorem q2161 : (Jvm.Cond.privateMethod ({ cls := "WellPromisesModel", name := "throwsIf", desc := "(Z)Z" } : Jvm.MethodName)) ∈ lw_tbl := lw_at lw_m9 133 rfl
theorem q2162 : (Jvm.Cond.instanceMethod ({ cls := "WellPromisesModel", name := "throwsIf", desc := "(Z)Z" } : Jvm.MethodName)) ∈ lw_all := lw_g (lw_at lw_m9 134 rfl) rfl
theorem q2163 : (Jvm.Cond.code ({ cls := "WellPromisesModel", name := "throwsIf", desc := "(Z)Z" } : Jvm.MethodName) prog_26_method_2_code (2 : Nat) (Option.some Jvm.ClassFile.FieldType.boolean)) ∈ lw_all := lw_g (lw_at lw_m9 135 rfl) rfl
theorem q2165 : (Jvm.Cond.instanceMethod ({ cls := "WellPromisesModel", name := "person", desc := "(II)I" } : Jvm.MethodName)) ∈ lw_all := lw_g (lw_at lw_m9 137 rfl) rfl
theorem q2166 : (Jvm.Cond.selects "WellPromisesModel" ({ cls := "WellPromisesModel", name := "person", desc := "(II)I" } : Jvm.MethodName) ({ cls := "WellPromisesModel", name := "person", desc := "(II)I" } : Jvm.MethodName)) ∈ lw_all := lw_g (lw_at lw_m9 138 rfl) rfl
theorem q2167 : (Jvm.Cond.code ({ cls := "WellPromisesModel", name := "person", desc := "(II)I" } : Jvm.MethodName) prog_26_method_36_code (3 : Nat) (Option.some Jvm.ClassFile.FieldType.int)) ∈ lw_all := lw_g (lw_at lw_m9 139 rfl) rfl
theorem q2168 : (Jvm.Cond.methodLink "WellPromisesModel" (251 : Nat) ({ cls := "WellPromisesModel", name := "isPerson", desc := "(I)Z" } : Jvm.MethodName)) ∈ lw_all := lw_g (lw_at lw_m9 140 rfl) rfl
theorem q2169 : (Jvm.Cond.privateMethod ({ cls := "WellPromisesModel", name := "isPerson", desc := "(I)Z" } : Jvm.MethodName)) ∈ lw_tbl := lw_at lw_m9 141 rfl
theorem q2170 : (Jvm.Cond.instanceMethod ({ cls := "WellPromisesModel", name := "isPerson", desc := "(I)Z" } : Jvm.MethodName)) ∈ lw_all := lw_g (lw_at lw_m9 142 rfl) rfl
theorem q2171 : (Jvm.Cond.code ({ cls := "WellPromisesModel", name := "isPerson", desc := "(I)Z" } : Jvm.MethodName) prog_26_method_31_code (2 : Nat) (Option.some Jvm.ClassFile.FieldType.boolean)) ∈ lw_all := lw_g (lw_at lw_m9 143 rfl) rfl
theorem q2173 : (Jvm.Cond.instanceMethod ({ cls := "WellPromisesModel", name := "way", desc := "(II)I" } : Jvm.MethodName)) ∈ lw_all := lw_g (lw_at lw_m9 145 rfl) rfl
theorem q2174 : (Jvm.Cond.selects "WellPromisesModel" ({ cls := "WellPromisesModel", name := "way", desc := "(II)I" } : Jvm.MethodName) ({ cls := "WellPromisesModel", name := "way", desc := "(II)I" } : Jvm.MethodName)) ∈ lw_all := lw_g (lw_at lw_m9 146 rfl) rfl
theorem q2175 : (Jvm.Cond.code ({ cls := "WellPromisesModel", name := "way", desc := "(II)I" } : Jvm.MethodName) prog_26_method_37_code (6 : Nat) (Option.some Jvm.ClassFile.FieldType.int)) ∈ lw_all := lw_g (lw_at lw_m9 147 rfl) rfl
theorem q2176 : (Jvm.Cond.methodLink "WellPromisesModel" (254 : Nat) ({ cls := "WellPromisesModel", name := "isPlace", desc := "(I)Z" } : Jvm.MethodName)) ∈ lw_all := lw_g (lw_at lw_m9 148 rfl) rfl
theorem q2177 : (Jvm.Cond.privateMethod ({ cls := "WellPromisesModel", name := "isPlace", desc := "(I)Z" } : Jvm.MethodName)) ∈ lw_tbl := lw_at lw_m9 149 rfl
theorem q2178 : (Jvm.Cond.instanceMethod ({ cls := "WellPromisesModel", name := "isPlace", desc := "(I)Z" } : Jvm.MethodName)) ∈ lw_all := lw_g (lw_at lw_m9 150 rfl) rfl
theorem q2179 : (Jvm.Cond.code ({ cls := "WellPromisesModel", name := "isPlace", desc := "(I)Z" } : Jvm.MethodName) prog_26_method_30_code (2 : Nat) (Option.some Jvm.ClassFile.FieldType.boolean)) ∈ lw_all := lw_g (lw_at lw_m9 151 rfl) rfl
theorem q2181 : (Jvm.Cond.instanceMethod ({ cls := "WellPromisesModel", name := "frog", desc := "(I)I" } : Jvm.MethodName)) ∈ lw_all := lw_g (lw_at lw_m9 153 rfl) rfl
theorem q2182 : (Jvm.Cond.selects "WellPromisesModel" ({ cls := "WellPromisesModel", name := "frog", desc := "(I)I" } : Jvm.MethodName) ({ cls := "WellPromisesModel", name := "frog", desc := "(I)I" } : Jvm.MethodName)) ∈ lw_all := lw_g (lw_at lw_m9 154 rfl) rfl
theorem q2183 : (Jvm.Cond.code ({ cls := "WellPromisesModel", name := "frog", desc := "(I)I" } : Jvm.MethodName) prog_26_method_38_code (2 : Nat) (Option.some Jvm.ClassFile.FieldType.int)) ∈ lw_all := lw_g (lw_at lw_m9 155 rfl) rfl
theorem q2185 : (Jvm.Cond.instanceMethod ({ cls := "WellPromisesModel", name := "now", desc := "(I)I" } : Jvm.MethodName)) ∈ lw_all := lw_g (lw_at lw_m9 157 rfl) rfl
theorem q2186 : (Jvm.Cond.selects "WellPromisesModel" ({ cls := "WellPromisesModel", name := "now", desc := "(I)I" } : Jvm.MethodName) ({ cls := "WellPromisesModel", name := "now", desc := "(I)I" } : Jvm.MethodName)) ∈ lw_all := lw_g (lw_at lw_m9 158 rfl) rfl
theorem q2187 : (Jvm.Cond.code ({ cls := "WellPromisesModel", name := "now", desc := "(I)I" } : Jvm.MethodName) prog_26_method_39_code (6 : Nat) (Option.some Jvm.ClassFile.FieldType.int)) ∈ lw_all := lw_g (lw_at lw_m9 159 rfl) rfl
theorem q2188 : (Jvm.Cond.methodLink "WellPromisesModel" (257 : Nat) ({ cls := "WellPromisesModel", name := "statusOf", desc := "(II)I" } : Jvm.MethodName)) ∈ lw_all := lw_g (lw_at lw_m9 160 rfl) rfl
theorem q2189 : (Jvm.Cond.privateMethod ({ cls := "WellPromisesModel", name := "statusOf", desc := "(II)I" } : Jvm.MethodName)) ∈ lw_tbl := lw_at lw_m9 161 rfl
theorem q2190 : (Jvm.Cond.instanceMethod ({ cls := "WellPromisesModel", name := "statusOf", desc := "(II)I" } : Jvm.MethodName)) ∈ lw_all := lw_g (lw_at lw_m9 162 rfl) rfl
theorem q2191 : (Jvm.Cond.code ({ cls := "WellPromisesModel", name := "statusOf", desc := "(II)I" } : Jvm.MethodName) prog_26_method_64_code (4 : Nat) (Option.some Jvm.ClassFile.FieldType.int)) ∈ lw_all := lw_g (lw_at lw_m9 163 rfl) rfl
theorem q2192 : (Jvm.Cond.methodLink "WellPromisesModel" (314 : Nat) ({ cls := "WellPromisesModel", name := "brokenOf", desc := "(II)I" } : Jvm.MethodName)) ∈ lw_all := lw_g (lw_at lw_m9 164 rfl) rfl
theorem q2193 : (Jvm.Cond.privateMethod ({ cls := "WellPromisesModel", name := "brokenOf", desc := "(II)I" } : Jvm.MethodName)) ∈ lw_tbl := lw_at lw_m9 165 rfl
theorem q2194 : (Jvm.Cond.instanceMethod ({ cls := "WellPromisesModel", name := "brokenOf", desc := "(II)I" } : Jvm.MethodName)) ∈ lw_all := lw_g (lw_at lw_m9 166 rfl) rfl
theorem q2195 : (Jvm.Cond.code ({ cls := "WellPromisesModel", name := "brokenOf", desc := "(II)I" } : Jvm.MethodName) prog_26_method_63_code (5 : Nat) (Option.some Jvm.ClassFile.FieldType.int)) ∈ lw_all := lw_g (lw_at lw_m9 167 rfl) rfl
theorem q2196 : (Jvm.Cond.methodLink "WellPromisesModel" (305 : Nat) ({ cls := "WellPromisesModel", name := "dueOf", desc := "(II)I" } : Jvm.MethodName)) ∈ lw_all := lw_g (lw_at lw_m9 168 rfl) rfl
theorem q2197 : (Jvm.Cond.privateMethod ({ cls := "WellPromisesModel", name := "dueOf", desc := "(II)I" } : Jvm.MethodName)) ∈ lw_tbl := lw_at lw_m9 169 rfl
theorem q2198 : (Jvm.Cond.instanceMethod ({ cls := "WellPromisesModel", name := "dueOf", desc := "(II)I" } : Jvm.MethodName)) ∈ lw_all := lw_g (lw_at lw_m9 170 rfl) rfl
theorem q2199 : (Jvm.Cond.code ({ cls := "WellPromisesModel", name := "dueOf", desc := "(II)I" } : Jvm.MethodName) prog_26_method_59_code (4 : Nat) (Option.some Jvm.ClassFile.FieldType.int)) ∈ lw_all := lw_g (lw_at lw_m9 171 rfl) rfl
theorem q2200 : (Jvm.Cond.methodLink "WellPromisesModel" (298 : Nat) ({ cls := "WellPromisesModel", name := "lastOf", desc := "(II)I" } : Jvm.MethodName)) ∈ lw_all := lw_g (lw_at lw_m9 172 rfl) rfl
theorem q2201 : (Jvm.Cond.privateMethod ({ cls := "WellPromisesModel", name := "lastOf", desc := "(II)I" } : Jvm.MethodName)) ∈ lw_tbl := lw_at lw_m9 173 rfl
theorem q2202 : (Jvm.Cond.instanceMethod ({ cls := "WellPromisesModel", name := "lastOf", desc := "(II)I" } : Jvm.MethodName)) ∈ lw_all := lw_g (lw_at lw_m9 174 rfl) rfl
theorem q2203 : (Jvm.Cond.code ({ cls := "WellPromisesModel", name := "lastOf", desc := "(II)I" } : Jvm.MethodName) prog_26_method_58_code (3 : Nat) (Option.some Jvm.ClassFile.FieldType.int)) ∈ lw_all := lw_g (lw_at lw_m9 175 rfl) rfl
theorem q2204 : (Jvm.Cond.methodLink "WellPromisesModel" (295 : Nat) ({ cls := "WellPromisesModel", name := "lesser", desc := "(II)I" } : Jvm.MethodName)) ∈ lw_all := lw_g (lw_at lw_m9 176 rfl) rfl
theorem q2205 : (Jvm.Cond.static ({ cls := "WellPromisesModel", name := "lesser", desc := "(II)I" } : Jvm.MethodName)) ∈ lw_all := lw_g (lw_at lw_m9 177 rfl) rfl
theorem q2206 : (Jvm.Cond.code ({ cls := "WellPromisesModel", name := "lesser", desc := "(II)I" } : Jvm.MethodName) prog_26_method_9_code (2 : Nat) (Option.some Jvm.ClassFile.FieldType.int)) ∈ lw_all := lw_g (lw_at lw_m9 178 rfl) rfl
theorem q2207 : (Jvm.Cond.methodLink "WellPromisesModel" (308 : Nat) ({ cls := "WellPromisesModel", name := "isKept", desc := "(III)Z" } : Jvm.MethodName)) ∈ lw_all := lw_g (lw_at lw_m9 179 rfl) rfl
theorem q2208 : (Jvm.Cond.privateMethod ({ cls := "WellPromisesModel", name := "isKept", desc := "(III)Z" } : Jvm.MethodName)) ∈ lw_tbl := lw_at lw_m9 180 rfl
theorem q2209 : (Jvm.Cond.instanceMethod ({ cls := "WellPromisesModel", name := "isKept", desc := "(III)Z" } : Jvm.MethodName)) ∈ lw_all := lw_g (lw_at lw_m9 181 rfl) rfl
theorem q2210 : (Jvm.Cond.code ({ cls := "WellPromisesModel", name := "isKept", desc := "(III)Z" } : Jvm.MethodName) prog_26_method_61_code (4 : Nat) (Option.some Jvm.ClassFile.FieldType.boolean)) ∈ lw_all := lw_g (lw_at lw_m9 182 rfl) rfl
theorem q2211 : (Jvm.Cond.methodLink "WellPromisesModel" (301 : Nat) ({ cls := "WellPromisesModel", name := "timesOn", desc := "(III)I" } : Jvm.MethodName)) ∈ lw_all := lw_g (lw_at lw_m9 183 rfl) rfl
theorem q2212 : (Jvm.Cond.privateMethod ({ cls := "WellPromisesModel", name := "timesOn", desc := "(III)I" } : Jvm.MethodName)) ∈ lw_tbl := lw_at lw_m9 184 rfl
theorem q2213 : (Jvm.Cond.instanceMethod ({ cls := "WellPromisesModel", name := "timesOn", desc := "(III)I" } : Jvm.MethodName)) ∈ lw_all := lw_g (lw_at lw_m9 185 rfl) rfl
theorem q2214 : (Jvm.Cond.code ({ cls := "WellPromisesModel", name := "timesOn", desc := "(III)I" } : Jvm.MethodName) prog_26_method_60_code (8 : Nat) (Option.some Jvm.ClassFile.FieldType.int)) ∈ lw_all := lw_g (lw_at lw_m9 186 rfl) rfl
theorem q2215 : (Jvm.Cond.methodLink "WellPromisesModel" (311 : Nat) ({ cls := "WellPromisesModel", name := "isOff", desc := "(III)Z" } : Jvm.MethodName)) ∈ lw_all := lw_g (lw_at lw_m9 187 rfl) rfl
theorem q2216 : (Jvm.Cond.privateMethod ({ cls := "WellPromisesModel", name := "isOff", desc := "(III)Z" } : Jvm.MethodName)) ∈ lw_tbl := lw_at lw_m9 188 rfl
theorem q2217 : (Jvm.Cond.instanceMethod ({ cls := "WellPromisesModel", name := "isOff", desc := "(III)Z" } : Jvm.MethodName)) ∈ lw_all := lw_g (lw_at lw_m9 189 rfl) rfl
theorem q2218 : (Jvm.Cond.code ({ cls := "WellPromisesModel", name := "isOff", desc := "(III)Z" } : Jvm.MethodName) prog_26_method_62_code (7 : Nat) (Option.some Jvm.ClassFile.FieldType.boolean)) ∈ lw_all := lw_g (lw_at lw_m9 190 rfl) rfl
theorem q2219 : (Jvm.Cond.methodLink "WellPromisesModel" (260 : Nat) ({ cls := "WellPromisesModel", name := "dayNow", desc := "()I" } : Jvm.MethodName)) ∈ lw_all := lw_g (lw_at lw_m9 191 rfl) rfl
theorem q2220 : (Jvm.Cond.privateMethod ({ cls := "WellPromisesModel", name := "dayNow", desc := "()I" } : Jvm.MethodName)) ∈ lw_tbl := lw_at lw_m9 192 rfl
theorem q2221 : (Jvm.Cond.instanceMethod ({ cls := "WellPromisesModel", name := "dayNow", desc := "()I" } : Jvm.MethodName)) ∈ lw_all := lw_g (lw_at lw_m9 193 rfl) rfl
theorem q2222 : (Jvm.Cond.code ({ cls := "WellPromisesModel", name := "dayNow", desc := "()I" } : Jvm.MethodName) prog_26_method_34_code (1 : Nat) (Option.some Jvm.ClassFile.FieldType.int)) ∈ lw_all := lw_g (lw_at lw_m9 194 rfl) rfl
theorem q2224 : (Jvm.Cond.instanceMethod ({ cls := "WellPromisesModel", name := "whyGo", desc := "(II)I" } : Jvm.MethodName)) ∈ lw_all := lw_g (lw_at lw_m9 196 rfl) rfl
theorem q2225 : (Jvm.Cond.selects "WellPromisesModel" ({ cls := "WellPromisesModel", name := "whyGo", desc := "(II)I" } : Jvm.MethodName) ({ cls := "WellPromisesModel", name := "whyGo", desc := "(II)I" } : Jvm.MethodName)) ∈ lw_all := lw_g (lw_at lw_m9 197 rfl) rfl
theorem q2226 : (Jvm.Cond.code ({ cls := "WellPromisesModel", name := "whyGo", desc := "(II)I" } : Jvm.MethodName) prog_26_method_48_code (3 : Nat) (Option.some Jvm.ClassFile.FieldType.int)) ∈ lw_all := lw_g (lw_at lw_m9 198 rfl) rfl
theorem q2227 : (Jvm.Cond.methodLink "WellPromisesModel" (266 : Nat) ({ cls := "WellPromisesModel", name := "whyGoOf", desc := "(II)I" } : Jvm.MethodName)) ∈ lw_all := lw_g (lw_at lw_m9 199 rfl) rfl
theorem q2228 : (Jvm.Cond.privateMethod ({ cls := "WellPromisesModel", name := "whyGoOf", desc := "(II)I" } : Jvm.MethodName)) ∈ lw_tbl := lw_at lw_m9 200 rfl
theorem q2229 : (Jvm.Cond.instanceMethod ({ cls := "WellPromisesModel", name := "whyGoOf", desc := "(II)I" } : Jvm.MethodName)) ∈ lw_all := lw_g (lw_at lw_m9 201 rfl) rfl
theorem q2230 : (Jvm.Cond.code ({ cls := "WellPromisesModel", name := "whyGoOf", desc := "(II)I" } : Jvm.MethodName) prog_26_method_41_code (3 : Nat) (Option.some Jvm.ClassFile.FieldType.int)) ∈ lw_all := lw_g (lw_at lw_m9 202 rfl) rfl
theorem q2231 : (Jvm.Cond.methodLink "WellPromisesModel" (263 : Nat) ({ cls := "WellPromisesModel", name := "isOver", desc := "()Z" } : Jvm.MethodName)) ∈ lw_all := lw_g (lw_at lw_m9 203 rfl) rfl
theorem q2232 : (Jvm.Cond.privateMethod ({ cls := "WellPromisesModel", name := "isOver", desc := "()Z" } : Jvm.MethodName)) ∈ lw_tbl := lw_at lw_m9 204 rfl
theorem q2233 : (Jvm.Cond.instanceMethod ({ cls := "WellPromisesModel", name := "isOver", desc := "()Z" } : Jvm.MethodName)) ∈ lw_all := lw_g (lw_at lw_m9 205 rfl) rfl
theorem q2234 : (Jvm.Cond.code ({ cls := "WellPromisesModel", name := "isOver", desc := "()Z" } : Jvm.MethodName) prog_26_method_40_code (1 : Nat) (Option.some Jvm.ClassFile.FieldType.boolean)) ∈ lw_all := lw_g (lw_at lw_m9 206 rfl) rfl
theorem q2236 : (Jvm.Cond.instanceMethod ({ cls := "WellPromisesModel", name := "go", desc := "(II)I" } : Jvm.MethodName)) ∈ lw_all := lw_g (lw_at lw_m9 208 rfl) rfl
theorem q2237 : (Jvm.Cond.selects "WellPromisesModel" ({ cls := "WellPromisesModel", name := "go", desc := "(II)I" } : Jvm.MethodName) ({ cls := "WellPromisesModel", name := "go", desc := "(II)I" } : Jvm.MethodName)) ∈ lw_all := lw_g (lw_at lw_m9 209 rfl) rfl
theorem q2238 : (Jvm.Cond.code ({ cls := "WellPromisesModel", name := "go", desc := "(II)I" } : Jvm.MethodName) prog_26_method_49_code (4 : Nat) (Option.some Jvm.ClassFile.FieldType.int)) ∈ lw_all := lw_g (lw_at lw_m9 210 rfl) rfl
theorem q2239 : (Jvm.Cond.methodLink "WellPromisesModel" (269 : Nat) ({ cls := "WellPromisesModel", name := "keep", desc := "()V" } : Jvm.MethodName)) ∈ lw_all := lw_g (lw_at lw_m9 211 rfl) rfl
theorem q2240 : (Jvm.Cond.privateMethod ({ cls := "WellPromisesModel", name := "keep", desc := "()V" } : Jvm.MethodName)) ∈ lw_tbl := lw_at lw_m9 212 rfl
theorem q2241 : (Jvm.Cond.instanceMethod ({ cls := "WellPromisesModel", name := "keep", desc := "()V" } : Jvm.MethodName)) ∈ lw_all := lw_g (lw_at lw_m9 213 rfl) rfl
theorem q2242 : (Jvm.Cond.code ({ cls := "WellPromisesModel", name := "keep", desc := "()V" } : Jvm.MethodName) prog_26_method_54_code (2 : Nat) (Option.none : Option Jvm.ClassFile.FieldType)) ∈ lw_all := lw_g (lw_at lw_m9 214 rfl) rfl
theorem q2243 : (Jvm.Cond.methodLink "WellPromisesModel" (272 : Nat) ({ cls := "WellPromisesModel", name := "goes", desc := "(II)V" } : Jvm.MethodName)) ∈ lw_all := lw_g (lw_at lw_m9 215 rfl) rfl
theorem q2244 : (Jvm.Cond.privateMethod ({ cls := "WellPromisesModel", name := "goes", desc := "(II)V" } : Jvm.MethodName)) ∈ lw_tbl := lw_at lw_m9 216 rfl
theorem q2245 : (Jvm.Cond.instanceMethod ({ cls := "WellPromisesModel", name := "goes", desc := "(II)V" } : Jvm.MethodName)) ∈ lw_all := lw_g (lw_at lw_m9 217 rfl) rfl
theorem q2246 : (Jvm.Cond.code ({ cls := "WellPromisesModel", name := "goes", desc := "(II)V" } : Jvm.MethodName) prog_26_method_44_code (3 : Nat) (Option.none : Option Jvm.ClassFile.FieldType)) ∈ lw_all := lw_g (lw_at lw_m9 218 rfl) rfl
theorem q2248 : (Jvm.Cond.instanceMethod ({ cls := "WellPromisesModel", name := "act", desc := "(II)I" } : Jvm.MethodName)) ∈ lw_all := lw_g (lw_at lw_m9 220 rfl) rfl
theorem q2249 : (Jvm.Cond.selects "WellPromisesModel" ({ cls := "WellPromisesModel", name := "act", desc := "(II)I" } : Jvm.MethodName) ({ cls := "WellPromisesModel", name := "act", desc := "(II)I" } : Jvm.MethodName)) ∈ lw_all := lw_g (lw_at lw_m9 221 rfl) rfl
theorem q2250 : (Jvm.Cond.code ({ cls := "WellPromisesModel", name := "act", desc := "(II)I" } : Jvm.MethodName) prog_26_method_50_code (4 : Nat) (Option.some Jvm.ClassFile.FieldType.int)) ∈ lw_all := lw_g (lw_at lw_m9 222 rfl) rfl
theorem q2251 : (Jvm.Cond.methodLink "WellPromisesModel" (276 : Nat) ({ cls := "WellPromisesModel", name := "isDeed", desc := "(I)Z" } : Jvm.MethodName)) ∈ lw_all := lw_g (lw_at lw_m9 223 rfl) rfl
theorem q2252 : (Jvm.Cond.privateMethod ({ cls := "WellPromisesModel", name := "isDeed", desc := "(I)Z" } : Jvm.MethodName)) ∈ lw_tbl := lw_at lw_m9 224 rfl
theorem q2253 : (Jvm.Cond.instanceMethod ({ cls := "WellPromisesModel", name := "isDeed", desc := "(I)Z" } : Jvm.MethodName)) ∈ lw_all := lw_g (lw_at lw_m9 225 rfl) rfl
theorem q2254 : (Jvm.Cond.code ({ cls := "WellPromisesModel", name := "isDeed", desc := "(I)Z" } : Jvm.MethodName) prog_26_method_32_code (2 : Nat) (Option.some Jvm.ClassFile.FieldType.boolean)) ∈ lw_all := lw_g (lw_at lw_m9 226 rfl) rfl
theorem q2255 : (Jvm.Cond.methodLink "WellPromisesModel" (279 : Nat) ({ cls := "WellPromisesModel", name := "whyAct", desc := "(I)I" } : Jvm.MethodName)) ∈ lw_all := lw_g (lw_at lw_m9 227 rfl) rfl
theorem q2256 : (Jvm.Cond.privateMethod ({ cls := "WellPromisesModel", name := "whyAct", desc := "(I)I" } : Jvm.MethodName)) ∈ lw_tbl := lw_at lw_m9 228 rfl
theorem q2257 : (Jvm.Cond.instanceMethod ({ cls := "WellPromisesModel", name := "whyAct", desc := "(I)I" } : Jvm.MethodName)) ∈ lw_all := lw_g (lw_at lw_m9 229 rfl) rfl
theorem q2258 : (Jvm.Cond.code ({ cls := "WellPromisesModel", name := "whyAct", desc := "(I)I" } : Jvm.MethodName) prog_26_method_42_code (2 : Nat) (Option.some Jvm.ClassFile.FieldType.int)) ∈ lw_all := lw_g (lw_at lw_m9 230 rfl) rfl
theorem q2259 : (Jvm.Cond.methodLink "WellPromisesModel" (283 : Nat) ({ cls := "WellPromisesModel", name := "does", desc := "(II)V" } : Jvm.MethodName)) ∈ lw_all := lw_g (lw_at lw_m9 231 rfl) rfl
theorem q2260 : (Jvm.Cond.privateMethod ({ cls := "WellPromisesModel", name := "does", desc := "(II)V" } : Jvm.MethodName)) ∈ lw_tbl := lw_at lw_m9 232 rfl
theorem q2261 : (Jvm.Cond.instanceMethod ({ cls := "WellPromisesModel", name := "does", desc := "(II)V" } : Jvm.MethodName)) ∈ lw_all := lw_g (lw_at lw_m9 233 rfl) rfl
theorem q2262 : (Jvm.Cond.code ({ cls := "WellPromisesModel", name := "does", desc := "(II)V" } : Jvm.MethodName) prog_26_method_45_code (4 : Nat) (Option.none : Option Jvm.ClassFile.FieldType)) ∈ lw_all := lw_g (lw_at lw_m9 234 rfl) rfl
theorem q2264 : (Jvm.Cond.instanceMethod ({ cls := "WellPromisesModel", name := "say", desc := "(II)I" } : Jvm.MethodName)) ∈ lw_all := lw_g (lw_at lw_m9 236 rfl) rfl
theorem q2265 : (Jvm.Cond.selects "WellPromisesModel" ({ cls := "WellPromisesModel", name := "say", desc := "(II)I" } : Jvm.MethodName) ({ cls := "WellPromisesModel", name := "say", desc := "(II)I" } : Jvm.MethodName)) ∈ lw_all := lw_g (lw_at lw_m9 237 rfl) rfl
theorem q2266 : (Jvm.Cond.code ({ cls := "WellPromisesModel", name := "say", desc := "(II)I" } : Jvm.MethodName) prog_26_method_51_code (4 : Nat) (Option.some Jvm.ClassFile.FieldType.int)) ∈ lw_all := lw_g (lw_at lw_m9 238 rfl) rfl
theorem q2267 : (Jvm.Cond.methodLink "WellPromisesModel" (286 : Nat) ({ cls := "WellPromisesModel", name := "whySay", desc := "(II)I" } : Jvm.MethodName)) ∈ lw_all := lw_g (lw_at lw_m9 239 rfl) rfl
theorem q2268 : (Jvm.Cond.privateMethod ({ cls := "WellPromisesModel", name := "whySay", desc := "(II)I" } : Jvm.MethodName)) ∈ lw_tbl := lw_at lw_m10 0 rfl
theorem q2269 : (Jvm.Cond.instanceMethod ({ cls := "WellPromisesModel", name := "whySay", desc := "(II)I" } : Jvm.MethodName)) ∈ lw_all := lw_g (lw_at lw_m10 1 rfl) rfl
theorem q2270 : (Jvm.Cond.code ({ cls := "WellPromisesModel", name := "whySay", desc := "(II)I" } : Jvm.MethodName) prog_26_method_43_code (3 : Nat) (Option.some Jvm.ClassFile.FieldType.int)) ∈ lw_all := lw_g (lw_at lw_m10 2 rfl) rfl
theorem q2271 : (Jvm.Cond.methodLink "WellPromisesModel" (289 : Nat) ({ cls := "WellPromisesModel", name := "says", desc := "(II)V" } : Jvm.MethodName)) ∈ lw_all := lw_g (lw_at lw_m10 3 rfl) rfl
theorem q2272 : (Jvm.Cond.privateMethod ({ cls := "WellPromisesModel", name := "says", desc := "(II)V" } : Jvm.MethodName)) ∈ lw_tbl := lw_at lw_m10 4 rfl
theorem q2273 : (Jvm.Cond.instanceMethod ({ cls := "WellPromisesModel", name := "says", desc := "(II)V" } : Jvm.MethodName)) ∈ lw_all := lw_g (lw_at lw_m10 5 rfl) rfl
theorem q2274 : (Jvm.Cond.code ({ cls := "WellPromisesModel", name := "says", desc := "(II)V" } : Jvm.MethodName) prog_26_method_46_code (4 : Nat) (Option.none : Option Jvm.ClassFile.FieldType)) ∈ lw_all := lw_g (lw_at lw_m10 6 rfl) rfl
theorem q2276 : (Jvm.Cond.instanceMethod ({ cls := "WellPromisesModel", name := "hours", desc := "(I)I" } : Jvm.MethodName)) ∈ lw_all := lw_g (lw_at lw_m10 8 rfl) rfl
theorem q2277 : (Jvm.Cond.selects "WellPromisesModel" ({ cls := "WellPromisesModel", name := "hours", desc := "(I)I" } : Jvm.MethodName) ({ cls := "WellPromisesModel", name := "hours", desc := "(I)I" } : Jvm.MethodName)) ∈ lw_all := lw_g (lw_at lw_m10 9 rfl) rfl
theorem q2278 : (Jvm.Cond.code ({ cls := "WellPromisesModel", name := "hours", desc := "(I)I" } : Jvm.MethodName) prog_26_method_52_code (3 : Nat) (Option.some Jvm.ClassFile.FieldType.int)) ∈ lw_all := lw_g (lw_at lw_m10 10 rfl) rfl
theorem q2279 : (Jvm.Cond.methodLink "WellPromisesModel" (292 : Nat) ({ cls := "WellPromisesModel", name := "hour", desc := "()V" } : Jvm.MethodName)) ∈ lw_all := lw_g (lw_at lw_m10 11 rfl) rfl
theorem q2280 : (Jvm.Cond.privateMethod ({ cls := "WellPromisesModel", name := "hour", desc := "()V" } : Jvm.MethodName)) ∈ lw_tbl := lw_at lw_m10 12 rfl
theorem q2281 : (Jvm.Cond.instanceMethod ({ cls := "WellPromisesModel", name := "hour", desc := "()V" } : Jvm.MethodName)) ∈ lw_all := lw_g (lw_at lw_m10 13 rfl) rfl
theorem q2282 : (Jvm.Cond.code ({ cls := "WellPromisesModel", name := "hour", desc := "()V" } : Jvm.MethodName) prog_26_method_47_code (2 : Nat) (Option.none : Option Jvm.ClassFile.FieldType)) ∈ lw_all := lw_g (lw_at lw_m10 14 rfl) rfl
theorem q2284 : (Jvm.Cond.instanceMethod ({ cls := "WellPromisesModel", name := "done", desc := "(II)I" } : Jvm.MethodName)) ∈ lw_all := lw_g (lw_at lw_m10 16 rfl) rfl
theorem q2285 : (Jvm.Cond.selects "WellPromisesModel" ({ cls := "WellPromisesModel", name := "done", desc := "(II)I" } : Jvm.MethodName) ({ cls := "WellPromisesModel", name := "done", desc := "(II)I" } : Jvm.MethodName)) ∈ lw_all := lw_g (lw_at lw_m10 17 rfl) rfl
theorem q2286 : (Jvm.Cond.code ({ cls := "WellPromisesModel", name := "done", desc := "(II)I" } : Jvm.MethodName) prog_26_method_53_code (3 : Nat) (Option.some Jvm.ClassFile.FieldType.int)) ∈ lw_all := lw_g (lw_at lw_m10 18 rfl) rfl
theorem q2288 : (Jvm.Cond.instanceMethod ({ cls := "WellPromisesModel", name := "undo", desc := "()I" } : Jvm.MethodName)) ∈ lw_all := lw_g (lw_at lw_m10 20 rfl) rfl
theorem q2289 : (Jvm.Cond.selects "WellPromisesModel" ({ cls := "WellPromisesModel", name := "undo", desc := "()I" } : Jvm.MethodName) ({ cls := "WellPromisesModel", name := "undo", desc := "()I" } : Jvm.MethodName)) ∈ lw_all := lw_g (lw_at lw_m10 21 rfl) rfl
theorem q2290 : (Jvm.Cond.code ({ cls := "WellPromisesModel", name := "undo", desc := "()I" } : Jvm.MethodName) prog_26_method_55_code (2 : Nat) (Option.some Jvm.ClassFile.FieldType.int)) ∈ lw_all := lw_g (lw_at lw_m10 22 rfl) rfl
theorem q2292 : (Jvm.Cond.instanceMethod ({ cls := "WellPromisesModel", name := "status", desc := "(II)I" } : Jvm.MethodName)) ∈ lw_all := lw_g (lw_at lw_m10 24 rfl) rfl
theorem q2293 : (Jvm.Cond.selects "WellPromisesModel" ({ cls := "WellPromisesModel", name := "status", desc := "(II)I" } : Jvm.MethodName) ({ cls := "WellPromisesModel", name := "status", desc := "(II)I" } : Jvm.MethodName)) ∈ lw_all := lw_g (lw_at lw_m10 25 rfl) rfl
theorem q2294 : (Jvm.Cond.code ({ cls := "WellPromisesModel", name := "status", desc := "(II)I" } : Jvm.MethodName) prog_26_method_66_code (3 : Nat) (Option.some Jvm.ClassFile.FieldType.int)) ∈ lw_all := lw_g (lw_at lw_m10 26 rfl) rfl
theorem q2295 : (Jvm.Cond.methodLink "WellPromisesModel" (317 : Nat) ({ cls := "WellPromisesModel", name := "isReading", desc := "(II)Z" } : Jvm.MethodName)) ∈ lw_all := lw_g (lw_at lw_m10 27 rfl) rfl
theorem q2296 : (Jvm.Cond.privateMethod ({ cls := "WellPromisesModel", name := "isReading", desc := "(II)Z" } : Jvm.MethodName)) ∈ lw_tbl := lw_at lw_m10 28 rfl
theorem q2297 : (Jvm.Cond.instanceMethod ({ cls := "WellPromisesModel", name := "isReading", desc := "(II)Z" } : Jvm.MethodName)) ∈ lw_all := lw_g (lw_at lw_m10 29 rfl) rfl
theorem q2298 : (Jvm.Cond.code ({ cls := "WellPromisesModel", name := "isReading", desc := "(II)Z" } : Jvm.MethodName) prog_26_method_65_code (3 : Nat) (Option.some Jvm.ClassFile.FieldType.boolean)) ∈ lw_all := lw_g (lw_at lw_m10 30 rfl) rfl
theorem q2300 : (Jvm.Cond.instanceMethod ({ cls := "WellPromisesModel", name := "readings", desc := "(II)I" } : Jvm.MethodName)) ∈ lw_all := lw_g (lw_at lw_m10 32 rfl) rfl
theorem q2301 : (Jvm.Cond.selects "WellPromisesModel" ({ cls := "WellPromisesModel", name := "readings", desc := "(II)I" } : Jvm.MethodName) ({ cls := "WellPromisesModel", name := "readings", desc := "(II)I" } : Jvm.MethodName)) ∈ lw_all := lw_g (lw_at lw_m10 33 rfl) rfl
theorem q2302 : (Jvm.Cond.code ({ cls := "WellPromisesModel", name := "readings", desc := "(II)I" } : Jvm.MethodName) prog_26_method_67_code (5 : Nat) (Option.some Jvm.ClassFile.FieldType.int)) ∈ lw_all := lw_g (lw_at lw_m10 34 rfl) rfl
theorem q2304 : (Jvm.Cond.instanceMethod ({ cls := "WellPromisesModel", name := "broken", desc := "(II)I" } : Jvm.MethodName)) ∈ lw_all := lw_g (lw_at lw_m10 36 rfl) rfl
theorem q2305 : (Jvm.Cond.selects "WellPromisesModel" ({ cls := "WellPromisesModel", name := "broken", desc := "(II)I" } : Jvm.MethodName) ({ cls := "WellPromisesModel", name := "broken", desc := "(II)I" } : Jvm.MethodName)) ∈ lw_all := lw_g (lw_at lw_m10 37 rfl) rfl
theorem q2306 : (Jvm.Cond.code ({ cls := "WellPromisesModel", name := "broken", desc := "(II)I" } : Jvm.MethodName) prog_26_method_68_code (3 : Nat) (Option.some Jvm.ClassFile.FieldType.int)) ∈ lw_all := lw_g (lw_at lw_m10 38 rfl) rfl
theorem q2308 : (Jvm.Cond.instanceMethod ({ cls := "WellPromisesModel", name := "breach", desc := "(II)I" } : Jvm.MethodName)) ∈ lw_all := lw_g (lw_at lw_m10 40 rfl) rfl
theorem q2309 : (Jvm.Cond.selects "WellPromisesModel" ({ cls := "WellPromisesModel", name := "breach", desc := "(II)I" } : Jvm.MethodName) ({ cls := "WellPromisesModel", name := "breach", desc := "(II)I" } : Jvm.MethodName)) ∈ lw_all := lw_g (lw_at lw_m10 41 rfl) rfl
theorem q2310 : (Jvm.Cond.code ({ cls := "WellPromisesModel", name := "breach", desc := "(II)I" } : Jvm.MethodName) prog_26_method_69_code (8 : Nat) (Option.some Jvm.ClassFile.FieldType.int)) ∈ lw_all := lw_g (lw_at lw_m10 42 rfl) rfl
theorem q2312 : (Jvm.Cond.instanceMethod ({ cls := "WellPromisesModel", name := "asks", desc := "(II)I" } : Jvm.MethodName)) ∈ lw_all := lw_g (lw_at lw_m10 44 rfl) rfl
theorem q2313 : (Jvm.Cond.selects "WellPromisesModel" ({ cls := "WellPromisesModel", name := "asks", desc := "(II)I" } : Jvm.MethodName) ({ cls := "WellPromisesModel", name := "asks", desc := "(II)I" } : Jvm.MethodName)) ∈ lw_all := lw_g (lw_at lw_m10 45 rfl) rfl
theorem q2314 : (Jvm.Cond.code ({ cls := "WellPromisesModel", name := "asks", desc := "(II)I" } : Jvm.MethodName) prog_26_method_72_code (3 : Nat) (Option.some Jvm.ClassFile.FieldType.int)) ∈ lw_all := lw_g (lw_at lw_m10 46 rfl) rfl
theorem q2315 : (Jvm.Cond.methodLink "WellPromisesModel" (320 : Nat) ({ cls := "WellPromisesModel", name := "isDue", desc := "(II)Z" } : Jvm.MethodName)) ∈ lw_all := lw_g (lw_at lw_m10 47 rfl) rfl
theorem q2316 : (Jvm.Cond.privateMethod ({ cls := "WellPromisesModel", name := "isDue", desc := "(II)Z" } : Jvm.MethodName)) ∈ lw_tbl := lw_at lw_m10 48 rfl
theorem q2317 : (Jvm.Cond.instanceMethod ({ cls := "WellPromisesModel", name := "isDue", desc := "(II)Z" } : Jvm.MethodName)) ∈ lw_all := lw_g (lw_at lw_m10 49 rfl) rfl
theorem q2318 : (Jvm.Cond.code ({ cls := "WellPromisesModel", name := "isDue", desc := "(II)Z" } : Jvm.MethodName) prog_26_method_70_code (4 : Nat) (Option.some Jvm.ClassFile.FieldType.boolean)) ∈ lw_all := lw_g (lw_at lw_m10 50 rfl) rfl
theorem q2319 : (Jvm.Cond.methodLink "WellPromisesModel" (323 : Nat) ({ cls := "WellPromisesModel", name := "leftOf", desc := "(II)I" } : Jvm.MethodName)) ∈ lw_all := lw_g (lw_at lw_m10 51 rfl) rfl
theorem q2320 : (Jvm.Cond.privateMethod ({ cls := "WellPromisesModel", name := "leftOf", desc := "(II)I" } : Jvm.MethodName)) ∈ lw_tbl := lw_at lw_m10 52 rfl
theorem q2321 : (Jvm.Cond.instanceMethod ({ cls := "WellPromisesModel", name := "leftOf", desc := "(II)I" } : Jvm.MethodName)) ∈ lw_all := lw_g (lw_at lw_m10 53 rfl) rfl
theorem q2322 : (Jvm.Cond.code ({ cls := "WellPromisesModel", name := "leftOf", desc := "(II)I" } : Jvm.MethodName) prog_26_method_71_code (4 : Nat) (Option.some Jvm.ClassFile.FieldType.int)) ∈ lw_all := lw_g (lw_at lw_m10 54 rfl) rfl
theorem q2324 : (Jvm.Cond.instanceMethod ({ cls := "WellPromisesModel", name := "agree", desc := "()I" } : Jvm.MethodName)) ∈ lw_all := lw_g (lw_at lw_m10 56 rfl) rfl
theorem q2325 : (Jvm.Cond.selects "WellPromisesModel" ({ cls := "WellPromisesModel", name := "agree", desc := "()I" } : Jvm.MethodName) ({ cls := "WellPromisesModel", name := "agree", desc := "()I" } : Jvm.MethodName)) ∈ lw_all := lw_g (lw_at lw_m10 57 rfl) rfl
theorem q2326 : (Jvm.Cond.code ({ cls := "WellPromisesModel", name := "agree", desc := "()I" } : Jvm.MethodName) prog_26_method_73_code (5 : Nat) (Option.some Jvm.ClassFile.FieldType.int)) ∈ lw_all := lw_g (lw_at lw_m10 58 rfl) rfl
theorem q2328 : (Jvm.Cond.instanceMethod ({ cls := "WellPromisesModel", name := "plan", desc := "(I)I" } : Jvm.MethodName)) ∈ lw_all := lw_g (lw_at lw_m10 60 rfl) rfl
theorem q2329 : (Jvm.Cond.selects "WellPromisesModel" ({ cls := "WellPromisesModel", name := "plan", desc := "(I)I" } : Jvm.MethodName) ({ cls := "WellPromisesModel", name := "plan", desc := "(I)I" } : Jvm.MethodName)) ∈ lw_all := lw_g (lw_at lw_m10 61 rfl) rfl
theorem q2330 : (Jvm.Cond.code ({ cls := "WellPromisesModel", name := "plan", desc := "(I)I" } : Jvm.MethodName) prog_26_method_82_code (9 : Nat) (Option.some Jvm.ClassFile.FieldType.int)) ∈ lw_all := lw_g (lw_at lw_m10 62 rfl) rfl
theorem q2331 : (Jvm.Cond.methodLink "WellPromisesModel" (351 : Nat) ({ cls := "WellPromisesModel", name := "isPlanned", desc := "(I)Z" } : Jvm.MethodName)) ∈ lw_all := lw_g (lw_at lw_m10 63 rfl) rfl
theorem q2332 : (Jvm.Cond.privateMethod ({ cls := "WellPromisesModel", name := "isPlanned", desc := "(I)Z" } : Jvm.MethodName)) ∈ lw_tbl := lw_at lw_m10 64 rfl
theorem q2333 : (Jvm.Cond.instanceMethod ({ cls := "WellPromisesModel", name := "isPlanned", desc := "(I)Z" } : Jvm.MethodName)) ∈ lw_all := lw_g (lw_at lw_m10 65 rfl) rfl
theorem q2334 : (Jvm.Cond.code ({ cls := "WellPromisesModel", name := "isPlanned", desc := "(I)Z" } : Jvm.MethodName) prog_26_method_81_code (2 : Nat) (Option.some Jvm.ClassFile.FieldType.boolean)) ∈ lw_all := lw_g (lw_at lw_m10 66 rfl) rfl
theorem q2335 : (Jvm.Cond.methodLink "WellPromisesModel" (345 : Nat) ({ cls := "WellPromisesModel", name := "dueSet", desc := "(I)I" } : Jvm.MethodName)) ∈ lw_all := lw_g (lw_at lw_m10 67 rfl) rfl
theorem q2336 : (Jvm.Cond.privateMethod ({ cls := "WellPromisesModel", name := "dueSet", desc := "(I)I" } : Jvm.MethodName)) ∈ lw_tbl := lw_at lw_m10 68 rfl
theorem q2337 : (Jvm.Cond.instanceMethod ({ cls := "WellPromisesModel", name := "dueSet", desc := "(I)I" } : Jvm.MethodName)) ∈ lw_all := lw_g (lw_at lw_m10 69 rfl) rfl
theorem q2338 : (Jvm.Cond.code ({ cls := "WellPromisesModel", name := "dueSet", desc := "(I)I" } : Jvm.MethodName) prog_26_method_80_code (4 : Nat) (Option.some Jvm.ClassFile.FieldType.int)) ∈ lw_all := lw_g (lw_at lw_m10 70 rfl) rfl
theorem q2339 : (Jvm.Cond.methodLink "WellPromisesModel" (348 : Nat) ({ cls := "WellPromisesModel", name := "bits", desc := "(I)I" } : Jvm.MethodName)) ∈ lw_all := lw_g (lw_at lw_m10 71 rfl) rfl
theorem q2340 : (Jvm.Cond.static ({ cls := "WellPromisesModel", name := "bits", desc := "(I)I" } : Jvm.MethodName)) ∈ lw_all := lw_g (lw_at lw_m10 72 rfl) rfl
theorem q2341 : (Jvm.Cond.code ({ cls := "WellPromisesModel", name := "bits", desc := "(I)I" } : Jvm.MethodName) prog_26_method_10_code (3 : Nat) (Option.some Jvm.ClassFile.FieldType.int)) ∈ lw_all := lw_g (lw_at lw_m10 73 rfl) rfl
theorem q2342 : (Jvm.Cond.methodLink "WellPromisesModel" (354 : Nat) ({ cls := "WellPromisesModel", name := "plansFor", desc := "(II)I" } : Jvm.MethodName)) ∈ lw_all := lw_g (lw_at lw_m10 74 rfl) rfl
theorem q2343 : (Jvm.Cond.privateMethod ({ cls := "WellPromisesModel", name := "plansFor", desc := "(II)I" } : Jvm.MethodName)) ∈ lw_tbl := lw_at lw_m10 75 rfl
theorem q2344 : (Jvm.Cond.instanceMethod ({ cls := "WellPromisesModel", name := "plansFor", desc := "(II)I" } : Jvm.MethodName)) ∈ lw_all := lw_g (lw_at lw_m10 76 rfl) rfl
theorem q2345 : (Jvm.Cond.code ({ cls := "WellPromisesModel", name := "plansFor", desc := "(II)I" } : Jvm.MethodName) prog_26_method_79_code (12 : Nat) (Option.some Jvm.ClassFile.FieldType.int)) ∈ lw_all := lw_g (lw_at lw_m10 77 rfl) rfl
theorem q2346 : (Jvm.Cond.methodLink "WellPromisesModel" (339 : Nat) ({ cls := "WellPromisesModel", name := "choiceOf", desc := "(I)I" } : Jvm.MethodName)) ∈ lw_all := lw_g (lw_at lw_m10 78 rfl) rfl
theorem q2347 : (Jvm.Cond.privateMethod ({ cls := "WellPromisesModel", name := "choiceOf", desc := "(I)I" } : Jvm.MethodName)) ∈ lw_tbl := lw_at lw_m10 79 rfl
theorem q2348 : (Jvm.Cond.instanceMethod ({ cls := "WellPromisesModel", name := "choiceOf", desc := "(I)I" } : Jvm.MethodName)) ∈ lw_all := lw_g (lw_at lw_m10 80 rfl) rfl
theorem q2349 : (Jvm.Cond.code ({ cls := "WellPromisesModel", name := "choiceOf", desc := "(I)I" } : Jvm.MethodName) prog_26_method_78_code (2 : Nat) (Option.some Jvm.ClassFile.FieldType.int)) ∈ lw_all := lw_g (lw_at lw_m10 81 rfl) rfl
theorem q2350 : (Jvm.Cond.methodLink "WellPromisesModel" (342 : Nat) ({ cls := "WellPromisesModel", name := "goingsBy", desc := "(IIII)I" } : Jvm.MethodName)) ∈ lw_all := lw_g (lw_at lw_m10 82 rfl) rfl
theorem q2351 : (Jvm.Cond.privateMethod ({ cls := "WellPromisesModel", name := "goingsBy", desc := "(IIII)I" } : Jvm.MethodName)) ∈ lw_tbl := lw_at lw_m10 83 rfl
theorem q2352 : (Jvm.Cond.instanceMethod ({ cls := "WellPromisesModel", name := "goingsBy", desc := "(IIII)I" } : Jvm.MethodName)) ∈ lw_all := lw_g (lw_at lw_m10 84 rfl) rfl
theorem q2353 : (Jvm.Cond.code ({ cls := "WellPromisesModel", name := "goingsBy", desc := "(IIII)I" } : Jvm.MethodName) prog_26_method_77_code (5 : Nat) (Option.some Jvm.ClassFile.FieldType.int)) ∈ lw_all := lw_g (lw_at lw_m10 85 rfl) rfl
theorem q2354 : (Jvm.Cond.methodLink "WellPromisesModel" (332 : Nat) ({ cls := "WellPromisesModel", name := "slot", desc := "(III)I" } : Jvm.MethodName)) ∈ lw_all := lw_g (lw_at lw_m10 86 rfl) rfl
theorem q2355 : (Jvm.Cond.privateMethod ({ cls := "WellPromisesModel", name := "slot", desc := "(III)I" } : Jvm.MethodName)) ∈ lw_tbl := lw_at lw_m10 87 rfl
theorem q2356 : (Jvm.Cond.instanceMethod ({ cls := "WellPromisesModel", name := "slot", desc := "(III)I" } : Jvm.MethodName)) ∈ lw_all := lw_g (lw_at lw_m10 88 rfl) rfl
theorem q2357 : (Jvm.Cond.code ({ cls := "WellPromisesModel", name := "slot", desc := "(III)I" } : Jvm.MethodName) prog_26_method_76_code (4 : Nat) (Option.some Jvm.ClassFile.FieldType.int)) ∈ lw_all := lw_g (lw_at lw_m10 89 rfl) rfl
theorem q2358 : (Jvm.Cond.methodLink "WellPromisesModel" (335 : Nat) ({ cls := "WellPromisesModel", name := "after", desc := "(IIII)I" } : Jvm.MethodName)) ∈ lw_all := lw_g (lw_at lw_m10 90 rfl) rfl
theorem q2359 : (Jvm.Cond.privateMethod ({ cls := "WellPromisesModel", name := "after", desc := "(IIII)I" } : Jvm.MethodName)) ∈ lw_tbl := lw_at lw_m10 91 rfl
theorem q2360 : (Jvm.Cond.instanceMethod ({ cls := "WellPromisesModel", name := "after", desc := "(IIII)I" } : Jvm.MethodName)) ∈ lw_all := lw_g (lw_at lw_m10 92 rfl) rfl
theorem q2361 : (Jvm.Cond.code ({ cls := "WellPromisesModel", name := "after", desc := "(IIII)I" } : Jvm.MethodName) prog_26_method_75_code (8 : Nat) (Option.some Jvm.ClassFile.FieldType.int)) ∈ lw_all := lw_g (lw_at lw_m10 93 rfl) rfl
theorem q2362 : (Jvm.Cond.methodLink "WellPromisesModel" (329 : Nat) ({ cls := "WellPromisesModel", name := "leftIn", desc := "(II)I" } : Jvm.MethodName)) ∈ lw_all := lw_g (lw_at lw_m10 94 rfl) rfl
theorem q2363 : (Jvm.Cond.static ({ cls := "WellPromisesModel", name := "leftIn", desc := "(II)I" } : Jvm.MethodName)) ∈ lw_all := lw_g (lw_at lw_m10 95 rfl) rfl
theorem q2364 : (Jvm.Cond.code ({ cls := "WellPromisesModel", name := "leftIn", desc := "(II)I" } : Jvm.MethodName) prog_26_method_74_code (2 : Nat) (Option.some Jvm.ClassFile.FieldType.int)) ∈ lw_all := lw_g (lw_at lw_m10 96 rfl) rfl
theorem q2366 : (Jvm.Cond.instanceMethod ({ cls := "WellPromisesModel", name := "step", desc := "(I)I" } : Jvm.MethodName)) ∈ lw_all := lw_g (lw_at lw_m10 98 rfl) rfl
theorem q2367 : (Jvm.Cond.selects "WellPromisesModel" ({ cls := "WellPromisesModel", name := "step", desc := "(I)I" } : Jvm.MethodName) ({ cls := "WellPromisesModel", name := "step", desc := "(I)I" } : Jvm.MethodName)) ∈ lw_all := lw_g (lw_at lw_m10 99 rfl) rfl
theorem q2368 : (Jvm.Cond.code ({ cls := "WellPromisesModel", name := "step", desc := "(I)I" } : Jvm.MethodName) prog_26_method_83_code (2 : Nat) (Option.some Jvm.ClassFile.FieldType.int)) ∈ lw_all := lw_g (lw_at lw_m10 100 rfl) rfl
theorem q2370 : (Jvm.Cond.instanceMethod ({ cls := "WellPromisesModel", name := "quarrel", desc := "(I)I" } : Jvm.MethodName)) ∈ lw_all := lw_g (lw_at lw_m10 102 rfl) rfl
theorem q2371 : (Jvm.Cond.selects "WellPromisesModel" ({ cls := "WellPromisesModel", name := "quarrel", desc := "(I)I" } : Jvm.MethodName) ({ cls := "WellPromisesModel", name := "quarrel", desc := "(I)I" } : Jvm.MethodName)) ∈ lw_all := lw_g (lw_at lw_m10 103 rfl) rfl
theorem q2372 : (Jvm.Cond.code ({ cls := "WellPromisesModel", name := "quarrel", desc := "(I)I" } : Jvm.MethodName) prog_26_method_84_code (5 : Nat) (Option.some Jvm.ClassFile.FieldType.int)) ∈ lw_all := lw_g (lw_at lw_m10 104 rfl) rfl
theorem q2374 : (Jvm.Cond.instanceMethod ({ cls := "WellPromisesModel", name := "chain", desc := "(I)I" } : Jvm.MethodName)) ∈ lw_all := lw_g (lw_at lw_m10 106 rfl) rfl
theorem q2375 : (Jvm.Cond.selects "WellPromisesModel" ({ cls := "WellPromisesModel", name := "chain", desc := "(I)I" } : Jvm.MethodName) ({ cls := "WellPromisesModel", name := "chain", desc := "(I)I" } : Jvm.MethodName)) ∈ lw_all := lw_g (lw_at lw_m10 107 rfl) rfl
theorem q2376 : (Jvm.Cond.code ({ cls := "WellPromisesModel", name := "chain", desc := "(I)I" } : Jvm.MethodName) prog_26_method_86_code (2 : Nat) (Option.some Jvm.ClassFile.FieldType.int)) ∈ lw_all := lw_g (lw_at lw_m10 108 rfl) rfl
theorem q2377 : (Jvm.Cond.methodLink "WellPromisesModel" (363 : Nat) ({ cls := "WellPromisesModel", name := "chainOf", desc := "(I)I" } : Jvm.MethodName)) ∈ lw_all := lw_g (lw_at lw_m10 109 rfl) rfl
theorem q2378 : (Jvm.Cond.privateMethod ({ cls := "WellPromisesModel", name := "chainOf", desc := "(I)I" } : Jvm.MethodName)) ∈ lw_tbl := lw_at lw_m10 110 rfl
theorem q2379 : (Jvm.Cond.instanceMethod ({ cls := "WellPromisesModel", name := "chainOf", desc := "(I)I" } : Jvm.MethodName)) ∈ lw_all := lw_g (lw_at lw_m10 111 rfl) rfl
theorem q2380 : (Jvm.Cond.code ({ cls := "WellPromisesModel", name := "chainOf", desc := "(I)I" } : Jvm.MethodName) prog_26_method_85_code (5 : Nat) (Option.some Jvm.ClassFile.FieldType.int)) ∈ lw_all := lw_g (lw_at lw_m10 112 rfl) rfl
theorem q2382 : (Jvm.Cond.instanceMethod ({ cls := "WellPromisesModel", name := "rings", desc := "()I" } : Jvm.MethodName)) ∈ lw_all := lw_g (lw_at lw_m10 114 rfl) rfl
theorem q2383 : (Jvm.Cond.selects "WellPromisesModel" ({ cls := "WellPromisesModel", name := "rings", desc := "()I" } : Jvm.MethodName) ({ cls := "WellPromisesModel", name := "rings", desc := "()I" } : Jvm.MethodName)) ∈ lw_all := lw_g (lw_at lw_m10 115 rfl) rfl
theorem q2384 : (Jvm.Cond.code ({ cls := "WellPromisesModel", name := "rings", desc := "()I" } : Jvm.MethodName) prog_26_method_87_code (3 : Nat) (Option.some Jvm.ClassFile.FieldType.int)) ∈ lw_all := lw_g (lw_at lw_m10 116 rfl) rfl
theorem q2386 : (Jvm.Cond.instanceMethod ({ cls := "WellPromisesModel", name := "roots", desc := "()I" } : Jvm.MethodName)) ∈ lw_all := lw_g (lw_at lw_m10 118 rfl) rfl
theorem q2387 : (Jvm.Cond.selects "WellPromisesModel" ({ cls := "WellPromisesModel", name := "roots", desc := "()I" } : Jvm.MethodName) ({ cls := "WellPromisesModel", name := "roots", desc := "()I" } : Jvm.MethodName)) ∈ lw_all := lw_g (lw_at lw_m10 119 rfl) rfl
theorem q2388 : (Jvm.Cond.code ({ cls := "WellPromisesModel", name := "roots", desc := "()I" } : Jvm.MethodName) prog_26_method_88_code (5 : Nat) (Option.some Jvm.ClassFile.FieldType.int)) ∈ lw_all := lw_g (lw_at lw_m10 120 rfl) rfl
theorem q2390 : (Jvm.Cond.instanceMethod ({ cls := "WellPromisesModel", name := "knows", desc := "(II)I" } : Jvm.MethodName)) ∈ lw_all := lw_g (lw_at lw_m10 122 rfl) rfl
theorem q2391 : (Jvm.Cond.selects "WellPromisesModel" ({ cls := "WellPromisesModel", name := "knows", desc := "(II)I" } : Jvm.MethodName) ({ cls := "WellPromisesModel", name := "knows", desc := "(II)I" } : Jvm.MethodName)) ∈ lw_all := lw_g (lw_at lw_m10 123 rfl) rfl
theorem q2392 : (Jvm.Cond.code ({ cls := "WellPromisesModel", name := "knows", desc := "(II)I" } : Jvm.MethodName) prog_26_method_90_code (3 : Nat) (Option.some Jvm.ClassFile.FieldType.int)) ∈ lw_all := lw_g (lw_at lw_m10 124 rfl) rfl
theorem q2393 : (Jvm.Cond.methodLink "WellPromisesModel" (366 : Nat) ({ cls := "WellPromisesModel", name := "spreads", desc := "(I)V" } : Jvm.MethodName)) ∈ lw_all := lw_g (lw_at lw_m10 125 rfl) rfl
theorem q2394 : (Jvm.Cond.privateMethod ({ cls := "WellPromisesModel", name := "spreads", desc := "(I)V" } : Jvm.MethodName)) ∈ lw_tbl := lw_at lw_m10 126 rfl
theorem q2395 : (Jvm.Cond.instanceMethod ({ cls := "WellPromisesModel", name := "spreads", desc := "(I)V" } : Jvm.MethodName)) ∈ lw_all := lw_g (lw_at lw_m10 127 rfl) rfl
theorem q2396 : (Jvm.Cond.code ({ cls := "WellPromisesModel", name := "spreads", desc := "(I)V" } : Jvm.MethodName) prog_26_method_89_code (7 : Nat) (Option.none : Option Jvm.ClassFile.FieldType)) ∈ lw_all := lw_g (lw_at lw_m10 128 rfl) rfl
theorem q2398 : (Jvm.Cond.instanceMethod ({ cls := "WellPromisesModel", name := "heard", desc := "(I)I" } : Jvm.MethodName)) ∈ lw_all := lw_g (lw_at lw_m10 130 rfl) rfl
theorem q2399 : (Jvm.Cond.selects "WellPromisesModel" ({ cls := "WellPromisesModel", name := "heard", desc := "(I)I" } : Jvm.MethodName) ({ cls := "WellPromisesModel", name := "heard", desc := "(I)I" } : Jvm.MethodName)) ∈ lw_all := lw_g (lw_at lw_m10 131 rfl) rfl
theorem q2400 : (Jvm.Cond.code ({ cls := "WellPromisesModel", name := "heard", desc := "(I)I" } : Jvm.MethodName) prog_26_method_91_code (4 : Nat) (Option.some Jvm.ClassFile.FieldType.int)) ∈ lw_all := lw_g (lw_at lw_m10 132 rfl) rfl
theorem q2402 : (Jvm.Cond.instanceMethod ({ cls := "WellPromisesModel", name := "dry", desc := "()I" } : Jvm.MethodName)) ∈ lw_all := lw_g (lw_at lw_m10 134 rfl) rfl
theorem q2403 : (Jvm.Cond.selects "WellPromisesModel" ({ cls := "WellPromisesModel", name := "dry", desc := "()I" } : Jvm.MethodName) ({ cls := "WellPromisesModel", name := "dry", desc := "()I" } : Jvm.MethodName)) ∈ lw_all := lw_g (lw_at lw_m10 135 rfl) rfl
theorem q2404 : (Jvm.Cond.code ({ cls := "WellPromisesModel", name := "dry", desc := "()I" } : Jvm.MethodName) prog_26_method_92_code (3 : Nat) (Option.some Jvm.ClassFile.FieldType.int)) ∈ lw_all := lw_g (lw_at lw_m10 136 rfl) rfl
theorem q2406 : (Jvm.Cond.instanceMethod ({ cls := "WellPromisesModel", name := "windows", desc := "(III)I" } : Jvm.MethodName)) ∈ lw_all := lw_g (lw_at lw_m10 138 rfl) rfl
theorem q2407 : (Jvm.Cond.selects "WellPromisesModel" ({ cls := "WellPromisesModel", name := "windows", desc := "(III)I" } : Jvm.MethodName) ({ cls := "WellPromisesModel", name := "windows", desc := "(III)I" } : Jvm.MethodName)) ∈ lw_all := lw_g (lw_at lw_m10 139 rfl) rfl
theorem q2408 : (Jvm.Cond.code ({ cls := "WellPromisesModel", name := "windows", desc := "(III)I" } : Jvm.MethodName) prog_26_method_95_code (4 : Nat) (Option.some Jvm.ClassFile.FieldType.int)) ∈ lw_all := lw_g (lw_at lw_m10 140 rfl) rfl
theorem q2409 : (Jvm.Cond.methodLink "WellPromisesModel" (379 : Nat) ({ cls := "WellPromisesModel", name := "looksForWindows", desc := "(III)Z" } : Jvm.MethodName)) ∈ lw_all := lw_g (lw_at lw_m10 141 rfl) rfl
theorem q2410 : (Jvm.Cond.privateMethod ({ cls := "WellPromisesModel", name := "looksForWindows", desc := "(III)Z" } : Jvm.MethodName)) ∈ lw_tbl := lw_at lw_m10 142 rfl
theorem q2411 : (Jvm.Cond.instanceMethod ({ cls := "WellPromisesModel", name := "looksForWindows", desc := "(III)Z" } : Jvm.MethodName)) ∈ lw_all := lw_g (lw_at lw_m10 143 rfl) rfl
theorem q2412 : (Jvm.Cond.code ({ cls := "WellPromisesModel", name := "looksForWindows", desc := "(III)Z" } : Jvm.MethodName) prog_26_method_94_code (6 : Nat) (Option.some Jvm.ClassFile.FieldType.boolean)) ∈ lw_all := lw_g (lw_at lw_m10 144 rfl) rfl
theorem q2413 : (Jvm.Cond.methodLink "WellPromisesModel" (375 : Nat) ({ cls := "WellPromisesModel", name := "fits", desc := "(IIIII)Z" } : Jvm.MethodName)) ∈ lw_all := lw_g (lw_at lw_m10 145 rfl) rfl
theorem q2414 : (Jvm.Cond.privateMethod ({ cls := "WellPromisesModel", name := "fits", desc := "(IIIII)Z" } : Jvm.MethodName)) ∈ lw_tbl := lw_at lw_m10 146 rfl
theorem q2415 : (Jvm.Cond.instanceMethod ({ cls := "WellPromisesModel", name := "fits", desc := "(IIIII)Z" } : Jvm.MethodName)) ∈ lw_all := lw_g (lw_at lw_m10 147 rfl) rfl
theorem q2416 : (Jvm.Cond.code ({ cls := "WellPromisesModel", name := "fits", desc := "(IIIII)Z" } : Jvm.MethodName) prog_26_method_93_code (10 : Nat) (Option.some Jvm.ClassFile.FieldType.boolean)) ∈ lw_all := lw_g (lw_at lw_m10 148 rfl) rfl
theorem q2418 : (Jvm.Cond.instanceMethod ({ cls := "WellPromisesModel", name := "shortest", desc := "(III)I" } : Jvm.MethodName)) ∈ lw_all := lw_g (lw_at lw_m10 150 rfl) rfl
theorem q2419 : (Jvm.Cond.selects "WellPromisesModel" ({ cls := "WellPromisesModel", name := "shortest", desc := "(III)I" } : Jvm.MethodName) ({ cls := "WellPromisesModel", name := "shortest", desc := "(III)I" } : Jvm.MethodName)) ∈ lw_all := lw_g (lw_at lw_m10 151 rfl) rfl
theorem q2420 : (Jvm.Cond.code ({ cls := "WellPromisesModel", name := "shortest", desc := "(III)I" } : Jvm.MethodName) prog_26_method_96_code (4 : Nat) (Option.some Jvm.ClassFile.FieldType.int)) ∈ lw_all := lw_g (lw_at lw_m10 152 rfl) rfl
theorem q2422 : (Jvm.Cond.instanceMethod ({ cls := "WellPromisesModel", name := "drawn", desc := "(II)I" } : Jvm.MethodName)) ∈ lw_all := lw_g (lw_at lw_m10 154 rfl) rfl
theorem q2423 : (Jvm.Cond.selects "WellPromisesModel" ({ cls := "WellPromisesModel", name := "drawn", desc := "(II)I" } : Jvm.MethodName) ({ cls := "WellPromisesModel", name := "drawn", desc := "(II)I" } : Jvm.MethodName)) ∈ lw_all := lw_g (lw_at lw_m10 155 rfl) rfl
theorem q2424 : (Jvm.Cond.code ({ cls := "WellPromisesModel", name := "drawn", desc := "(II)I" } : Jvm.MethodName) prog_26_method_99_code (3 : Nat) (Option.some Jvm.ClassFile.FieldType.int)) ∈ lw_all := lw_g (lw_at lw_m10 156 rfl) rfl
theorem q2425 : (Jvm.Cond.methodLink "WellPromisesModel" (389 : Nat) ({ cls := "WellPromisesModel", name := "draws", desc := "(II)I" } : Jvm.MethodName)) ∈ lw_all := lw_g (lw_at lw_m10 157 rfl) rfl
theorem q2426 : (Jvm.Cond.privateMethod ({ cls := "WellPromisesModel", name := "draws", desc := "(II)I" } : Jvm.MethodName)) ∈ lw_tbl := lw_at lw_m10 158 rfl
theorem q2427 : (Jvm.Cond.instanceMethod ({ cls := "WellPromisesModel", name := "draws", desc := "(II)I" } : Jvm.MethodName)) ∈ lw_all := lw_g (lw_at lw_m10 159 rfl) rfl
theorem q2428 : (Jvm.Cond.code ({ cls := "WellPromisesModel", name := "draws", desc := "(II)I" } : Jvm.MethodName) prog_26_method_98_code (7 : Nat) (Option.some Jvm.ClassFile.FieldType.int)) ∈ lw_all := lw_g (lw_at lw_m10 160 rfl) rfl
theorem q2429 : (Jvm.Cond.methodLink "WellPromisesModel" (386 : Nat) ({ cls := "WellPromisesModel", name := "draw", desc := "(I)I" } : Jvm.MethodName)) ∈ lw_all := lw_g (lw_at lw_m10 161 rfl) rfl
theorem q2430 : (Jvm.Cond.privateMethod ({ cls := "WellPromisesModel", name := "draw", desc := "(I)I" } : Jvm.MethodName)) ∈ lw_tbl := lw_at lw_m10 162 rfl
theorem q2431 : (Jvm.Cond.instanceMethod ({ cls := "WellPromisesModel", name := "draw", desc := "(I)I" } : Jvm.MethodName)) ∈ lw_all := lw_g (lw_at lw_m10 163 rfl) rfl
theorem q2432 : (Jvm.Cond.code ({ cls := "WellPromisesModel", name := "draw", desc := "(I)I" } : Jvm.MethodName) prog_26_method_97_code (2 : Nat) (Option.some Jvm.ClassFile.FieldType.int)) ∈ lw_all := lw_g (lw_at lw_m10 164 rfl) rfl
theorem q2433 : (Jvm.Cond.constant "WellPromisesModel" (385 : Nat) (1103515245 : Int32)) ∈ lw_all := lw_g (lw_at lw_m10 165 rfl) rfl
theorem q2435 : (Jvm.Cond.instanceMethod ({ cls := "WellPromisesModel", name := "odds", desc := "(III)I" } : Jvm.MethodName)) ∈ lw_all := lw_g (lw_at lw_m10 167 rfl) rfl
theorem q2436 : (Jvm.Cond.selects "WellPromisesModel" ({ cls := "WellPromisesModel", name := "odds", desc := "(III)I" } : Jvm.MethodName) ({ cls := "WellPromisesModel", name := "odds", desc := "(III)I" } : Jvm.MethodName)) ∈ lw_all := lw_g (lw_at lw_m10 168 rfl) rfl
theorem q2437 : (Jvm.Cond.code ({ cls := "WellPromisesModel", name := "odds", desc := "(III)I" } : Jvm.MethodName) prog_26_method_100_code (6 : Nat) (Option.some Jvm.ClassFile.FieldType.int)) ∈ lw_all := lw_g (lw_at lw_m10 169 rfl) rfl
theorem q2438 : (Jvm.Cond.methodLink "WellPromisesModel" (392 : Nat) ({ cls := "WellPromisesModel", name := "tries", desc := "()V" } : Jvm.MethodName)) ∈ lw_all := lw_g (lw_at lw_m10 170 rfl) rfl
theorem q2439 : (Jvm.Cond.privateMethod ({ cls := "WellPromisesModel", name := "tries", desc := "()V" } : Jvm.MethodName)) ∈ lw_tbl := lw_at lw_m10 171 rfl
theorem q2440 : (Jvm.Cond.instanceMethod ({ cls := "WellPromisesModel", name := "tries", desc := "()V" } : Jvm.MethodName)) ∈ lw_all := lw_g (lw_at lw_m10 172 rfl) rfl
theorem q2441 : (Jvm.Cond.code ({ cls := "WellPromisesModel", name := "tries", desc := "()V" } : Jvm.MethodName) prog_26_method_56_code (2 : Nat) (Option.none : Option Jvm.ClassFile.FieldType)) ∈ lw_all := lw_g (lw_at lw_m10 173 rfl) rfl
theorem q2442 : (Jvm.Cond.methodLink "WellPromisesModel" (395 : Nat) ({ cls := "WellPromisesModel", name := "back", desc := "()V" } : Jvm.MethodName)) ∈ lw_all := lw_g (lw_at lw_m10 174 rfl) rfl
theorem q2443 : (Jvm.Cond.privateMethod ({ cls := "WellPromisesModel", name := "back", desc := "()V" } : Jvm.MethodName)) ∈ lw_tbl := lw_at lw_m10 175 rfl
theorem q2444 : (Jvm.Cond.instanceMethod ({ cls := "WellPromisesModel", name := "back", desc := "()V" } : Jvm.MethodName)) ∈ lw_all := lw_g (lw_at lw_m10 176 rfl) rfl
theorem q2445 : (Jvm.Cond.code ({ cls := "WellPromisesModel", name := "back", desc := "()V" } : Jvm.MethodName) prog_26_method_57_code (2 : Nat) (Option.none : Option Jvm.ClassFile.FieldType)) ∈ lw_all := lw_g (lw_at lw_m10 177 rfl) rfl
theorem q2447 : (Jvm.Cond.instanceMethod ({ cls := "WellPromisesModel", name := "daybook", desc := "(I)I" } : Jvm.MethodName)) ∈ lw_all := lw_g (lw_at lw_m10 179 rfl) rfl
theorem q2448 : (Jvm.Cond.selects "WellPromisesModel" ({ cls := "WellPromisesModel", name := "daybook", desc := "(I)I" } : Jvm.MethodName) ({ cls := "WellPromisesModel", name := "daybook", desc := "(I)I" } : Jvm.MethodName)) ∈ lw_all := lw_g (lw_at lw_m10 180 rfl) rfl
theorem q2449 : (Jvm.Cond.code ({ cls := "WellPromisesModel", name := "daybook", desc := "(I)I" } : Jvm.MethodName) prog_26_method_103_code (4 : Nat) (Option.some Jvm.ClassFile.FieldType.int)) ∈ lw_all := lw_g (lw_at lw_m10 181 rfl) rfl
theorem q2450 : (Jvm.Cond.methodLink "WellPromisesModel" (401 : Nat) ({ cls := "WellPromisesModel", name := "bookLine", desc := "()Z" } : Jvm.MethodName)) ∈ lw_all := lw_g (lw_at lw_m10 182 rfl) rfl
theorem q2451 : (Jvm.Cond.privateMethod ({ cls := "WellPromisesModel", name := "bookLine", desc := "()Z" } : Jvm.MethodName)) ∈ lw_tbl := lw_at lw_m10 183 rfl
theorem q2452 : (Jvm.Cond.instanceMethod ({ cls := "WellPromisesModel", name := "bookLine", desc := "()Z" } : Jvm.MethodName)) ∈ lw_all := lw_g (lw_at lw_m10 184 rfl) rfl
theorem q2453 : (Jvm.Cond.code ({ cls := "WellPromisesModel", name := "bookLine", desc := "()Z" } : Jvm.MethodName) prog_26_method_101_code (3 : Nat) (Option.some Jvm.ClassFile.FieldType.boolean)) ∈ lw_all := lw_g (lw_at lw_m10 185 rfl) rfl
theorem q2454 : (Jvm.Cond.methodLink "WellPromisesModel" (404 : Nat) ({ cls := "WellPromisesModel", name := "lives", desc := "(I)I" } : Jvm.MethodName)) ∈ lw_all := lw_g (lw_at lw_m10 186 rfl) rfl
theorem q2455 : (Jvm.Cond.privateMethod ({ cls := "WellPromisesModel", name := "lives", desc := "(I)I" } : Jvm.MethodName)) ∈ lw_tbl := lw_at lw_m10 187 rfl
theorem q2456 : (Jvm.Cond.instanceMethod ({ cls := "WellPromisesModel", name := "lives", desc := "(I)I" } : Jvm.MethodName)) ∈ lw_all := lw_g (lw_at lw_m10 188 rfl) rfl
theorem q2457 : (Jvm.Cond.code ({ cls := "WellPromisesModel", name := "lives", desc := "(I)I" } : Jvm.MethodName) prog_26_method_102_code (6 : Nat) (Option.some Jvm.ClassFile.FieldType.int)) ∈ lw_all := lw_g (lw_at lw_m10 189 rfl) rfl
theorem q2458 : (Jvm.Cond.methodLink "WellPromisesModel" (407 : Nat) ({ cls := "WellPromisesModel", name := "now", desc := "(I)I" } : Jvm.MethodName)) ∈ lw_all := lw_g (lw_at lw_m10 190 rfl) rfl
theorem q2460 : (Jvm.Cond.instanceMethod ({ cls := "WellPromisesModel", name := "booked", desc := "(I)I" } : Jvm.MethodName)) ∈ lw_all := lw_g (lw_at lw_m10 192 rfl) rfl
theorem q2461 : (Jvm.Cond.selects "WellPromisesModel" ({ cls := "WellPromisesModel", name := "booked", desc := "(I)I" } : Jvm.MethodName) ({ cls := "WellPromisesModel", name := "booked", desc := "(I)I" } : Jvm.MethodName)) ∈ lw_all := lw_g (lw_at lw_m10 193 rfl) rfl
theorem q2462 : (Jvm.Cond.code ({ cls := "WellPromisesModel", name := "booked", desc := "(I)I" } : Jvm.MethodName) prog_26_method_104_code (2 : Nat) (Option.some Jvm.ClassFile.FieldType.int)) ∈ lw_all := lw_g (lw_at lw_m10 194 rfl) rfl
theorem q2464 : (Jvm.Cond.instanceMethod ({ cls := "WellPromisesModel", name := "sentence", desc := "()I" } : Jvm.MethodName)) ∈ lw_all := lw_g (lw_at lw_m10 196 rfl) rfl
theorem q2465 : (Jvm.Cond.selects "WellPromisesModel" ({ cls := "WellPromisesModel", name := "sentence", desc := "()I" } : Jvm.MethodName) ({ cls := "WellPromisesModel", name := "sentence", desc := "()I" } : Jvm.MethodName)) ∈ lw_all := lw_g (lw_at lw_m10 197 rfl) rfl
theorem q2466 : (Jvm.Cond.code ({ cls := "WellPromisesModel", name := "sentence", desc := "()I" } : Jvm.MethodName) prog_26_method_111_code (3 : Nat) (Option.some Jvm.ClassFile.FieldType.int)) ∈ lw_all := lw_g (lw_at lw_m10 198 rfl) rfl
theorem q2467 : (Jvm.Cond.methodLink "WellPromisesModel" (435 : Nat) ({ cls := "WellPromisesModel", name := "nots", desc := "()V" } : Jvm.MethodName)) ∈ lw_all := lw_g (lw_at lw_m10 199 rfl) rfl
theorem q2468 : (Jvm.Cond.privateMethod ({ cls := "WellPromisesModel", name := "nots", desc := "()V" } : Jvm.MethodName)) ∈ lw_tbl := lw_at lw_m10 200 rfl
theorem q2469 : (Jvm.Cond.instanceMethod ({ cls := "WellPromisesModel", name := "nots", desc := "()V" } : Jvm.MethodName)) ∈ lw_all := lw_g (lw_at lw_m10 201 rfl) rfl
theorem q2470 : (Jvm.Cond.code ({ cls := "WellPromisesModel", name := "nots", desc := "()V" } : Jvm.MethodName) prog_26_method_107_code (1 : Nat) (Option.none : Option Jvm.ClassFile.FieldType)) ∈ lw_all := lw_g (lw_at lw_m10 202 rfl) rfl
theorem q2471 : (Jvm.Cond.methodLink "WellPromisesModel" (419 : Nat) ({ cls := "WellPromisesModel", name := "code", desc := "(III)V" } : Jvm.MethodName)) ∈ lw_all := lw_g (lw_at lw_m10 203 rfl) rfl
theorem q2472 : (Jvm.Cond.privateMethod ({ cls := "WellPromisesModel", name := "code", desc := "(III)V" } : Jvm.MethodName)) ∈ lw_tbl := lw_at lw_m10 204 rfl
theorem q2473 : (Jvm.Cond.instanceMethod ({ cls := "WellPromisesModel", name := "code", desc := "(III)V" } : Jvm.MethodName)) ∈ lw_all := lw_g (lw_at lw_m10 205 rfl) rfl
theorem q2474 : (Jvm.Cond.code ({ cls := "WellPromisesModel", name := "code", desc := "(III)V" } : Jvm.MethodName) prog_26_method_105_code (4 : Nat) (Option.none : Option Jvm.ClassFile.FieldType)) ∈ lw_all := lw_g (lw_at lw_m10 206 rfl) rfl
theorem q2475 : (Jvm.Cond.methodLink "WellPromisesModel" (438 : Nat) ({ cls := "WellPromisesModel", name := "joins", desc := "(I)V" } : Jvm.MethodName)) ∈ lw_all := lw_g (lw_at lw_m10 207 rfl) rfl
theorem q2476 : (Jvm.Cond.privateMethod ({ cls := "WellPromisesModel", name := "joins", desc := "(I)V" } : Jvm.MethodName)) ∈ lw_tbl := lw_at lw_m10 208 rfl
theorem q2477 : (Jvm.Cond.instanceMethod ({ cls := "WellPromisesModel", name := "joins", desc := "(I)V" } : Jvm.MethodName)) ∈ lw_all := lw_g (lw_at lw_m10 209 rfl) rfl
theorem q2478 : (Jvm.Cond.code ({ cls := "WellPromisesModel", name := "joins", desc := "(I)V" } : Jvm.MethodName) prog_26_method_106_code (2 : Nat) (Option.none : Option Jvm.ClassFile.FieldType)) ∈ lw_all := lw_g (lw_at lw_m10 210 rfl) rfl
theorem q2479 : (Jvm.Cond.methodLink "WellPromisesModel" (441 : Nat) ({ cls := "WellPromisesModel", name := "behind", desc := "()Z" } : Jvm.MethodName)) ∈ lw_all := lw_g (lw_at lw_m10 211 rfl) rfl
theorem q2480 : (Jvm.Cond.privateMethod ({ cls := "WellPromisesModel", name := "behind", desc := "()Z" } : Jvm.MethodName)) ∈ lw_tbl := lw_at lw_m10 212 rfl
theorem q2481 : (Jvm.Cond.instanceMethod ({ cls := "WellPromisesModel", name := "behind", desc := "()Z" } : Jvm.MethodName)) ∈ lw_all := lw_g (lw_at lw_m10 213 rfl) rfl
theorem q2482 : (Jvm.Cond.code ({ cls := "WellPromisesModel", name := "behind", desc := "()Z" } : Jvm.MethodName) prog_26_method_110_code (1 : Nat) (Option.some Jvm.ClassFile.FieldType.boolean)) ∈ lw_all := lw_g (lw_at lw_m10 214 rfl) rfl
theorem q2483 : (Jvm.Cond.methodLink "WellPromisesModel" (444 : Nat) ({ cls := "WellPromisesModel", name := "operand", desc := "()Z" } : Jvm.MethodName)) ∈ lw_all := lw_g (lw_at lw_m10 215 rfl) rfl
theorem q2484 : (Jvm.Cond.privateMethod ({ cls := "WellPromisesModel", name := "operand", desc := "()Z" } : Jvm.MethodName)) ∈ lw_tbl := lw_at lw_m10 216 rfl
theorem q2485 : (Jvm.Cond.instanceMethod ({ cls := "WellPromisesModel", name := "operand", desc := "()Z" } : Jvm.MethodName)) ∈ lw_all := lw_g (lw_at lw_m10 217 rfl) rfl
theorem q2486 : (Jvm.Cond.code ({ cls := "WellPromisesModel", name := "operand", desc := "()Z" } : Jvm.MethodName) prog_26_method_109_code (5 : Nat) (Option.some Jvm.ClassFile.FieldType.boolean)) ∈ lw_all := lw_g (lw_at lw_m10 218 rfl) rfl
theorem q2487 : (Jvm.Cond.methodLink "WellPromisesModel" (426 : Nat) ({ cls := "WellPromisesModel", name := "leafOf", desc := "()I" } : Jvm.MethodName)) ∈ lw_all := lw_g (lw_at lw_m10 219 rfl) rfl
theorem q2488 : (Jvm.Cond.privateMethod ({ cls := "WellPromisesModel", name := "leafOf", desc := "()I" } : Jvm.MethodName)) ∈ lw_tbl := lw_at lw_m10 220 rfl
theorem q2489 : (Jvm.Cond.instanceMethod ({ cls := "WellPromisesModel", name := "leafOf", desc := "()I" } : Jvm.MethodName)) ∈ lw_all := lw_g (lw_at lw_m10 221 rfl) rfl
theorem q2490 : (Jvm.Cond.code ({ cls := "WellPromisesModel", name := "leafOf", desc := "()I" } : Jvm.MethodName) prog_26_method_108_code (1 : Nat) (Option.some Jvm.ClassFile.FieldType.int)) ∈ lw_all := lw_g (lw_at lw_m10 222 rfl) rfl
theorem q2492 : (Jvm.Cond.instanceMethod ({ cls := "WellPromisesModel", name := "said", desc := "(I)I" } : Jvm.MethodName)) ∈ lw_all := lw_g (lw_at lw_m10 224 rfl) rfl
theorem q2493 : (Jvm.Cond.selects "WellPromisesModel" ({ cls := "WellPromisesModel", name := "said", desc := "(I)I" } : Jvm.MethodName) ({ cls := "WellPromisesModel", name := "said", desc := "(I)I" } : Jvm.MethodName)) ∈ lw_all := lw_g (lw_at lw_m10 225 rfl) rfl
theorem q2494 : (Jvm.Cond.code ({ cls := "WellPromisesModel", name := "said", desc := "(I)I" } : Jvm.MethodName) prog_26_method_114_code (4 : Nat) (Option.some Jvm.ClassFile.FieldType.int)) ∈ lw_all := lw_g (lw_at lw_m10 226 rfl) rfl
theorem q2495 : (Jvm.Cond.methodLink "WellPromisesModel" (451 : Nat) ({ cls := "WellPromisesModel", name := "isSaid", desc := "(I)Z" } : Jvm.MethodName)) ∈ lw_all := lw_g (lw_at lw_m10 227 rfl) rfl
theorem q2496 : (Jvm.Cond.privateMethod ({ cls := "WellPromisesModel", name := "isSaid", desc := "(I)Z" } : Jvm.MethodName)) ∈ lw_tbl := lw_at lw_m10 228 rfl
theorem q2497 : (Jvm.Cond.instanceMethod ({ cls := "WellPromisesModel", name := "isSaid", desc := "(I)Z" } : Jvm.MethodName)) ∈ lw_all := lw_g (lw_at lw_m10 229 rfl) rfl
theorem q2498 : (Jvm.Cond.code ({ cls := "WellPromisesModel", name := "isSaid", desc := "(I)Z" } : Jvm.MethodName) prog_26_method_113_code (5 : Nat) (Option.some Jvm.ClassFile.FieldType.boolean)) ∈ lw_all := lw_g (lw_at lw_m10 230 rfl) rfl
theorem q2499 : (Jvm.Cond.methodLink "WellPromisesModel" (447 : Nat) ({ cls := "WellPromisesModel", name := "isLeaf", desc := "(IIII)Z" } : Jvm.MethodName)) ∈ lw_all := lw_g (lw_at lw_m10 231 rfl) rfl
theorem q2500 : (Jvm.Cond.privateMethod ({ cls := "WellPromisesModel", name := "isLeaf", desc := "(IIII)Z" } : Jvm.MethodName)) ∈ lw_tbl := lw_at lw_m10 232 rfl
theorem q2501 : (Jvm.Cond.instanceMethod ({ cls := "WellPromisesModel", name := "isLeaf", desc := "(IIII)Z" } : Jvm.MethodName)) ∈ lw_all := lw_g (lw_at lw_m10 233 rfl) rfl
theorem q2502 : (Jvm.Cond.code ({ cls := "WellPromisesModel", name := "isLeaf", desc := "(IIII)Z" } : Jvm.MethodName) prog_26_method_112_code (7 : Nat) (Option.some Jvm.ClassFile.FieldType.boolean)) ∈ lw_all := lw_g (lw_at lw_m10 234 rfl) rfl
theorem q2504 : (Jvm.Cond.instanceMethod ({ cls := "WellPromisesModel", name := "image", desc := "(I)Z" } : Jvm.MethodName)) ∈ lw_all := lw_g (lw_at lw_m10 236 rfl) rfl
theorem q2505 : (Jvm.Cond.selects "WellPromisesModel" ({ cls := "WellPromisesModel", name := "image", desc := "(I)Z" } : Jvm.MethodName) ({ cls := "WellPromisesModel", name := "image", desc := "(I)Z" } : Jvm.MethodName)) ∈ lw_all := lw_g (lw_at lw_m10 237 rfl) rfl
theorem q2506 : (Jvm.Cond.code ({ cls := "WellPromisesModel", name := "image", desc := "(I)Z" } : Jvm.MethodName) prog_26_method_115_code (3 : Nat) (Option.some Jvm.ClassFile.FieldType.boolean)) ∈ lw_all := lw_g (lw_at lw_m10 238 rfl) rfl
theorem q2508 : (Jvm.Cond.instanceMethod ({ cls := "WellPromisesModel", name := "restore", desc := "(I)Z" } : Jvm.MethodName)) ∈ lw_all := lw_g (lw_at lw_m11 0 rfl) rfl
theorem q2509 : (Jvm.Cond.selects "WellPromisesModel" ({ cls := "WellPromisesModel", name := "restore", desc := "(I)Z" } : Jvm.MethodName) ({ cls := "WellPromisesModel", name := "restore", desc := "(I)Z" } : Jvm.MethodName)) ∈ lw_all := lw_g (lw_at lw_m11 1 rfl) rfl
theorem q2510 : (Jvm.Cond.code ({ cls := "WellPromisesModel", name := "restore", desc := "(I)Z" } : Jvm.MethodName) prog_26_method_116_code (3 : Nat) (Option.some Jvm.ClassFile.FieldType.boolean)) ∈ lw_all := lw_g (lw_at lw_m11 2 rfl) rfl
theorem q2512 : (Jvm.Cond.instanceMethod ({ cls := "WellPromisesModel", name := "count", desc := "(I)I" } : Jvm.MethodName)) ∈ lw_all := lw_g (lw_at lw_m11 4 rfl) rfl
theorem q2513 : (Jvm.Cond.selects "WellPromisesModel" ({ cls := "WellPromisesModel", name := "count", desc := "(I)I" } : Jvm.MethodName) ({ cls := "WellPromisesModel", name := "count", desc := "(I)I" } : Jvm.MethodName)) ∈ lw_all := lw_g (lw_at lw_m11 5 rfl) rfl
theorem q2514 : (Jvm.Cond.code ({ cls := "WellPromisesModel", name := "count", desc := "(I)I" } : Jvm.MethodName) prog_26_method_117_code (2 : Nat) (Option.some Jvm.ClassFile.FieldType.int)) ∈ lw_all := lw_g (lw_at lw_m11 6 rfl) rfl
theorem q2553 : (Jvm.Cond.castable "WellPromisesModel" "java/lang/Object") ∈ lw_tbl := lw_at lw_m11 45 rfl

