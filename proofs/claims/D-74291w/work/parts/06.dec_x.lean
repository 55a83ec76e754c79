set_option maxRecDepth 100000
def dkwX2_init_2 : List UInt8 := [177]
abbrev dktX2_init_2 : List UInt8 := dkwX2_init_2 ++ []
def dkwX2_init_1 : List UInt8 := [187, 0, 15, 89, 8, 183, 0, 17, 181, 0, 24, 42, 187, 0, 15, 89, 16, 6, 183, 0, 17, 181, 0, 27]
abbrev dktX2_init_1 : List UInt8 := dkwX2_init_1 ++ dktX2_init_2
def dkwX2_init_0 : List UInt8 := [42, 183, 0, 3, 42, 16, 7, 181, 0, 9, 42, 187, 0, 15, 89, 16, 8, 183, 0, 17, 181, 0, 20, 42]
abbrev dktX2_init_0 : List UInt8 := dkwX2_init_0 ++ dktX2_init_1
theorem dksX2_init_0 : cX2_init.data.toList.drop 0 = dktX2_init_0 := by decide +kernel
theorem dksX2_init_1 : cX2_init.data.toList.drop 24 = dktX2_init_1 := dk_seg dksX2_init_0 24 rfl rfl
theorem dksX2_init_2 : cX2_init.data.toList.drop 48 = dktX2_init_2 := dk_seg dksX2_init_1 24 rfl rfl
theorem dX2_init_0 : decode cX2_init 0 = .ok (.aload_n 0, 1) := dk_42 (dk_at dksX2_init_0 0 rfl rfl)
theorem dX2_init_1 : decode cX2_init 1 = .ok (.invokespecial 3, 3) := dk_183 0 3 (dk_at dksX2_init_0 1 rfl rfl)
theorem dX2_init_4 : decode cX2_init 4 = .ok (.aload_n 0, 1) := dk_42 (dk_at dksX2_init_0 4 rfl rfl)
theorem dX2_init_5 : decode cX2_init 5 = .ok (.bipush 7, 2) := dk_16 7 (dk_at dksX2_init_0 5 rfl rfl)
theorem dX2_init_7 : decode cX2_init 7 = .ok (.putfield 9, 3) := dk_181 0 9 (dk_at dksX2_init_0 7 rfl rfl)
theorem dX2_init_10 : decode cX2_init 10 = .ok (.aload_n 0, 1) := dk_42 (dk_at dksX2_init_0 10 rfl rfl)
theorem dX2_init_11 : decode cX2_init 11 = .ok (.new 15, 3) := dk_187 0 15 (dk_at dksX2_init_0 11 rfl rfl)
theorem dX2_init_14 : decode cX2_init 14 = .ok (.dup, 1) := dk_89 (dk_at dksX2_init_0 14 rfl rfl)
theorem dX2_init_15 : decode cX2_init 15 = .ok (.bipush 8, 2) := dk_16 8 (dk_at dksX2_init_0 15 rfl rfl)
theorem dX2_init_17 : decode cX2_init 17 = .ok (.invokespecial 17, 3) := dk_183 0 17 (dk_at dksX2_init_0 17 rfl rfl)
theorem dX2_init_20 : decode cX2_init 20 = .ok (.putfield 20, 3) := dk_181 0 20 (dk_at dksX2_init_0 20 rfl rfl)
theorem dX2_init_23 : decode cX2_init 23 = .ok (.aload_n 0, 1) := dk_42 (dk_at dksX2_init_0 23 rfl rfl)
theorem dX2_init_24 : decode cX2_init 24 = .ok (.new 15, 3) := dk_187 0 15 (dk_at dksX2_init_1 0 rfl rfl)
theorem dX2_init_27 : decode cX2_init 27 = .ok (.dup, 1) := dk_89 (dk_at dksX2_init_1 3 rfl rfl)
theorem dX2_init_28 : decode cX2_init 28 = .ok (.iconst 5, 1) := dk_8 (dk_at dksX2_init_1 4 rfl rfl)
theorem dX2_init_29 : decode cX2_init 29 = .ok (.invokespecial 17, 3) := dk_183 0 17 (dk_at dksX2_init_1 5 rfl rfl)
theorem dX2_init_32 : decode cX2_init 32 = .ok (.putfield 24, 3) := dk_181 0 24 (dk_at dksX2_init_1 8 rfl rfl)
theorem dX2_init_35 : decode cX2_init 35 = .ok (.aload_n 0, 1) := dk_42 (dk_at dksX2_init_1 11 rfl rfl)
theorem dX2_init_36 : decode cX2_init 36 = .ok (.new 15, 3) := dk_187 0 15 (dk_at dksX2_init_1 12 rfl rfl)
theorem dX2_init_39 : decode cX2_init 39 = .ok (.dup, 1) := dk_89 (dk_at dksX2_init_1 15 rfl rfl)
theorem dX2_init_40 : decode cX2_init 40 = .ok (.bipush 6, 2) := dk_16 6 (dk_at dksX2_init_1 16 rfl rfl)
theorem dX2_init_42 : decode cX2_init 42 = .ok (.invokespecial 17, 3) := dk_183 0 17 (dk_at dksX2_init_1 18 rfl rfl)
theorem dX2_init_45 : decode cX2_init 45 = .ok (.putfield 27, 3) := dk_181 0 27 (dk_at dksX2_init_1 21 rfl rfl)
theorem dX2_init_48 : decode cX2_init 48 = .ok (.return_, 1) := dk_177 (dk_at dksX2_init_2 0 rfl rfl)
def dkwX2_isTold_1 : List UInt8 := [180, 0, 27, 43, 184, 0, 40, 153, 0, 7, 4, 167, 0, 4, 3, 172]
abbrev dktX2_isTold_1 : List UInt8 := dkwX2_isTold_1 ++ []
def dkwX2_isTold_0 : List UInt8 := [42, 180, 0, 20, 43, 184, 0, 40, 154, 0, 25, 42, 180, 0, 24, 43, 184, 0, 40, 154, 0, 14, 42]
abbrev dktX2_isTold_0 : List UInt8 := dkwX2_isTold_0 ++ dktX2_isTold_1
theorem dksX2_isTold_0 : cX2_isTold.data.toList.drop 0 = dktX2_isTold_0 := by decide +kernel
theorem dksX2_isTold_1 : cX2_isTold.data.toList.drop 23 = dktX2_isTold_1 := dk_seg dksX2_isTold_0 23 rfl rfl
theorem dX2_isTold_0 : decode cX2_isTold 0 = .ok (.aload_n 0, 1) := dk_42 (dk_at dksX2_isTold_0 0 rfl rfl)
theorem dX2_isTold_1 : decode cX2_isTold 1 = .ok (.getfield 20, 3) := dk_180 0 20 (dk_at dksX2_isTold_0 1 rfl rfl)
theorem dX2_isTold_4 : decode cX2_isTold 4 = .ok (.aload_n 1, 1) := dk_43 (dk_at dksX2_isTold_0 4 rfl rfl)
theorem dX2_isTold_5 : decode cX2_isTold 5 = .ok (.invokestatic 40, 3) := dk_184 0 40 (dk_at dksX2_isTold_0 5 rfl rfl)
theorem dX2_isTold_8 : decode cX2_isTold 8 = .ok (.ifCond .ne 25, 3) := dk_154 0 25 (dk_at dksX2_isTold_0 8 rfl rfl)
theorem dX2_isTold_11 : decode cX2_isTold 11 = .ok (.aload_n 0, 1) := dk_42 (dk_at dksX2_isTold_0 11 rfl rfl)
theorem dX2_isTold_12 : decode cX2_isTold 12 = .ok (.getfield 24, 3) := dk_180 0 24 (dk_at dksX2_isTold_0 12 rfl rfl)
theorem dX2_isTold_15 : decode cX2_isTold 15 = .ok (.aload_n 1, 1) := dk_43 (dk_at dksX2_isTold_0 15 rfl rfl)
theorem dX2_isTold_16 : decode cX2_isTold 16 = .ok (.invokestatic 40, 3) := dk_184 0 40 (dk_at dksX2_isTold_0 16 rfl rfl)
theorem dX2_isTold_19 : decode cX2_isTold 19 = .ok (.ifCond .ne 14, 3) := dk_154 0 14 (dk_at dksX2_isTold_0 19 rfl rfl)
theorem dX2_isTold_22 : decode cX2_isTold 22 = .ok (.aload_n 0, 1) := dk_42 (dk_at dksX2_isTold_0 22 rfl rfl)
theorem dX2_isTold_23 : decode cX2_isTold 23 = .ok (.getfield 27, 3) := dk_180 0 27 (dk_at dksX2_isTold_1 0 rfl rfl)
theorem dX2_isTold_26 : decode cX2_isTold 26 = .ok (.aload_n 1, 1) := dk_43 (dk_at dksX2_isTold_1 3 rfl rfl)
theorem dX2_isTold_27 : decode cX2_isTold 27 = .ok (.invokestatic 40, 3) := dk_184 0 40 (dk_at dksX2_isTold_1 4 rfl rfl)
theorem dX2_isTold_30 : decode cX2_isTold 30 = .ok (.ifCond .eq 7, 3) := dk_153 0 7 (dk_at dksX2_isTold_1 7 rfl rfl)
theorem dX2_isTold_33 : decode cX2_isTold 33 = .ok (.iconst 1, 1) := dk_4 (dk_at dksX2_isTold_1 10 rfl rfl)
theorem dX2_isTold_34 : decode cX2_isTold 34 = .ok (.goto 4, 3) := dk_167 0 4 (dk_at dksX2_isTold_1 11 rfl rfl)
theorem dX2_isTold_37 : decode cX2_isTold 37 = .ok (.iconst 0, 1) := dk_3 (dk_at dksX2_isTold_1 14 rfl rfl)
theorem dX2_isTold_38 : decode cX2_isTold 38 = .ok (.ireturn, 1) := dk_172 (dk_at dksX2_isTold_1 15 rfl rfl)
def dkwX2_mod_0 : List UInt8 := [31, 42, 180, 0, 9, 133, 184, 0, 30, 136, 172]
abbrev dktX2_mod_0 : List UInt8 := dkwX2_mod_0 ++ []
theorem dksX2_mod_0 : cX2_mod.data.toList.drop 0 = dktX2_mod_0 := by decide +kernel
theorem dX2_mod_0 : decode cX2_mod 0 = .ok (.lload_n 1, 1) := dk_31 (dk_at dksX2_mod_0 0 rfl rfl)
theorem dX2_mod_1 : decode cX2_mod 1 = .ok (.aload_n 0, 1) := dk_42 (dk_at dksX2_mod_0 1 rfl rfl)
theorem dX2_mod_2 : decode cX2_mod 2 = .ok (.getfield 9, 3) := dk_180 0 9 (dk_at dksX2_mod_0 2 rfl rfl)
theorem dX2_mod_5 : decode cX2_mod 5 = .ok (.i2l, 1) := dk_133 (dk_at dksX2_mod_0 5 rfl rfl)
theorem dX2_mod_6 : decode cX2_mod 6 = .ok (.invokestatic 30, 3) := dk_184 0 30 (dk_at dksX2_mod_0 6 rfl rfl)
theorem dX2_mod_9 : decode cX2_mod 9 = .ok (.l2i, 1) := dk_136 (dk_at dksX2_mod_0 9 rfl rfl)
theorem dX2_mod_10 : decode cX2_mod 10 = .ok (.ireturn, 1) := dk_172 (dk_at dksX2_mod_0 10 rfl rfl)
def dkwX2_inverse_0 : List UInt8 := [4, 61, 42, 28, 133, 27, 133, 105, 182, 0, 36, 4, 159, 0, 9, 132, 2, 1, 167, 255, 240, 28, 172]
abbrev dktX2_inverse_0 : List UInt8 := dkwX2_inverse_0 ++ []
theorem dksX2_inverse_0 : cX2_inverse.data.toList.drop 0 = dktX2_inverse_0 := by decide +kernel
theorem dX2_inverse_0 : decode cX2_inverse 0 = .ok (.iconst 1, 1) := dk_4 (dk_at dksX2_inverse_0 0 rfl rfl)
theorem dX2_inverse_1 : decode cX2_inverse 1 = .ok (.istore_n 2, 1) := dk_61 (dk_at dksX2_inverse_0 1 rfl rfl)
theorem dX2_inverse_2 : decode cX2_inverse 2 = .ok (.aload_n 0, 1) := dk_42 (dk_at dksX2_inverse_0 2 rfl rfl)
theorem dX2_inverse_3 : decode cX2_inverse 3 = .ok (.iload_n 2, 1) := dk_28 (dk_at dksX2_inverse_0 3 rfl rfl)
theorem dX2_inverse_4 : decode cX2_inverse 4 = .ok (.i2l, 1) := dk_133 (dk_at dksX2_inverse_0 4 rfl rfl)
theorem dX2_inverse_5 : decode cX2_inverse 5 = .ok (.iload_n 1, 1) := dk_27 (dk_at dksX2_inverse_0 5 rfl rfl)
theorem dX2_inverse_6 : decode cX2_inverse 6 = .ok (.i2l, 1) := dk_133 (dk_at dksX2_inverse_0 6 rfl rfl)
theorem dX2_inverse_7 : decode cX2_inverse 7 = .ok (.lmul, 1) := dk_105 (dk_at dksX2_inverse_0 7 rfl rfl)
theorem dX2_inverse_8 : decode cX2_inverse 8 = .ok (.invokevirtual 36, 3) := dk_182 0 36 (dk_at dksX2_inverse_0 8 rfl rfl)
theorem dX2_inverse_11 : decode cX2_inverse 11 = .ok (.iconst 1, 1) := dk_4 (dk_at dksX2_inverse_0 11 rfl rfl)
theorem dX2_inverse_12 : decode cX2_inverse 12 = .ok (.if_icmp .eq 9, 3) := dk_159 0 9 (dk_at dksX2_inverse_0 12 rfl rfl)
theorem dX2_inverse_15 : decode cX2_inverse 15 = .ok (.iinc 2 1, 3) := dk_132 2 1 (dk_at dksX2_inverse_0 15 rfl rfl)
theorem dX2_inverse_18 : decode cX2_inverse 18 = .ok (.goto (-16), 3) := dk_167 255 240 (dk_at dksX2_inverse_0 18 rfl rfl)
theorem dX2_inverse_21 : decode cX2_inverse 21 = .ok (.iload_n 2, 1) := dk_28 (dk_at dksX2_inverse_0 21 rfl rfl)
theorem dX2_inverse_22 : decode cX2_inverse 22 = .ok (.ireturn, 1) := dk_172 (dk_at dksX2_inverse_0 22 rfl rfl)
def dkwX3_init_1 : List UInt8 := [181, 0, 19, 42, 27, 181, 0, 23, 177]
abbrev dktX3_init_1 : List UInt8 := dkwX3_init_1 ++ []
def dkwX3_init_0 : List UInt8 := [42, 183, 0, 1, 42, 187, 0, 7, 89, 183, 0, 9, 181, 0, 10, 42, 187, 0, 16, 89, 183, 0, 18]
abbrev dktX3_init_0 : List UInt8 := dkwX3_init_0 ++ dktX3_init_1
theorem dksX3_init_0 : cX3_init.data.toList.drop 0 = dktX3_init_0 := by decide +kernel
theorem dksX3_init_1 : cX3_init.data.toList.drop 23 = dktX3_init_1 := dk_seg dksX3_init_0 23 rfl rfl
theorem dX3_init_0 : decode cX3_init 0 = .ok (.aload_n 0, 1) := dk_42 (dk_at dksX3_init_0 0 rfl rfl)
theorem dX3_init_1 : decode cX3_init 1 = .ok (.invokespecial 1, 3) := dk_183 0 1 (dk_at dksX3_init_0 1 rfl rfl)
theorem dX3_init_4 : decode cX3_init 4 = .ok (.aload_n 0, 1) := dk_42 (dk_at dksX3_init_0 4 rfl rfl)
theorem dX3_init_5 : decode cX3_init 5 = .ok (.new 7, 3) := dk_187 0 7 (dk_at dksX3_init_0 5 rfl rfl)
theorem dX3_init_8 : decode cX3_init 8 = .ok (.dup, 1) := dk_89 (dk_at dksX3_init_0 8 rfl rfl)
theorem dX3_init_9 : decode cX3_init 9 = .ok (.invokespecial 9, 3) := dk_183 0 9 (dk_at dksX3_init_0 9 rfl rfl)
theorem dX3_init_12 : decode cX3_init 12 = .ok (.putfield 10, 3) := dk_181 0 10 (dk_at dksX3_init_0 12 rfl rfl)
theorem dX3_init_15 : decode cX3_init 15 = .ok (.aload_n 0, 1) := dk_42 (dk_at dksX3_init_0 15 rfl rfl)
theorem dX3_init_16 : decode cX3_init 16 = .ok (.new 16, 3) := dk_187 0 16 (dk_at dksX3_init_0 16 rfl rfl)
theorem dX3_init_19 : decode cX3_init 19 = .ok (.dup, 1) := dk_89 (dk_at dksX3_init_0 19 rfl rfl)
theorem dX3_init_20 : decode cX3_init 20 = .ok (.invokespecial 18, 3) := dk_183 0 18 (dk_at dksX3_init_0 20 rfl rfl)
theorem dX3_init_23 : decode cX3_init 23 = .ok (.putfield 19, 3) := dk_181 0 19 (dk_at dksX3_init_1 0 rfl rfl)
theorem dX3_init_26 : decode cX3_init 26 = .ok (.aload_n 0, 1) := dk_42 (dk_at dksX3_init_1 3 rfl rfl)
theorem dX3_init_27 : decode cX3_init 27 = .ok (.iload_n 1, 1) := dk_27 (dk_at dksX3_init_1 4 rfl rfl)
theorem dX3_init_28 : decode cX3_init 28 = .ok (.putfield 23, 3) := dk_181 0 23 (dk_at dksX3_init_1 5 rfl rfl)
theorem dX3_init_31 : decode cX3_init 31 = .ok (.return_, 1) := dk_177 (dk_at dksX3_init_1 8 rfl rfl)
def dkwX3_isFull_0 : List UInt8 := [42, 180, 0, 10, 182, 0, 27, 42, 180, 0, 23, 160, 0, 7, 4, 167, 0, 4, 3, 172]
abbrev dktX3_isFull_0 : List UInt8 := dkwX3_isFull_0 ++ []
theorem dksX3_isFull_0 : cX3_isFull.data.toList.drop 0 = dktX3_isFull_0 := by decide +kernel
theorem dX3_isFull_0 : decode cX3_isFull 0 = .ok (.aload_n 0, 1) := dk_42 (dk_at dksX3_isFull_0 0 rfl rfl)
theorem dX3_isFull_1 : decode cX3_isFull 1 = .ok (.getfield 10, 3) := dk_180 0 10 (dk_at dksX3_isFull_0 1 rfl rfl)
theorem dX3_isFull_4 : decode cX3_isFull 4 = .ok (.invokevirtual 27, 3) := dk_182 0 27 (dk_at dksX3_isFull_0 4 rfl rfl)
theorem dX3_isFull_7 : decode cX3_isFull 7 = .ok (.aload_n 0, 1) := dk_42 (dk_at dksX3_isFull_0 7 rfl rfl)
theorem dX3_isFull_8 : decode cX3_isFull 8 = .ok (.getfield 23, 3) := dk_180 0 23 (dk_at dksX3_isFull_0 8 rfl rfl)
theorem dX3_isFull_11 : decode cX3_isFull 11 = .ok (.if_icmp .ne 7, 3) := dk_160 0 7 (dk_at dksX3_isFull_0 11 rfl rfl)
theorem dX3_isFull_14 : decode cX3_isFull 14 = .ok (.iconst 1, 1) := dk_4 (dk_at dksX3_isFull_0 14 rfl rfl)
theorem dX3_isFull_15 : decode cX3_isFull 15 = .ok (.goto 4, 3) := dk_167 0 4 (dk_at dksX3_isFull_0 15 rfl rfl)
theorem dX3_isFull_18 : decode cX3_isFull 18 = .ok (.iconst 0, 1) := dk_3 (dk_at dksX3_isFull_0 18 rfl rfl)
theorem dX3_isFull_19 : decode cX3_isFull 19 = .ok (.ireturn, 1) := dk_172 (dk_at dksX3_isFull_0 19 rfl rfl)
def dkwX3_isOn_0 : List UInt8 := [42, 180, 0, 19, 43, 182, 0, 61, 172]
abbrev dktX3_isOn_0 : List UInt8 := dkwX3_isOn_0 ++ []
theorem dksX3_isOn_0 : cX3_isOn.data.toList.drop 0 = dktX3_isOn_0 := by decide +kernel
theorem dX3_isOn_0 : decode cX3_isOn 0 = .ok (.aload_n 0, 1) := dk_42 (dk_at dksX3_isOn_0 0 rfl rfl)
theorem dX3_isOn_1 : decode cX3_isOn 1 = .ok (.getfield 19, 3) := dk_180 0 19 (dk_at dksX3_isOn_0 1 rfl rfl)
theorem dX3_isOn_4 : decode cX3_isOn 4 = .ok (.aload_n 1, 1) := dk_43 (dk_at dksX3_isOn_0 4 rfl rfl)
theorem dX3_isOn_5 : decode cX3_isOn 5 = .ok (.invokevirtual 61, 3) := dk_182 0 61 (dk_at dksX3_isOn_0 5 rfl rfl)
theorem dX3_isOn_8 : decode cX3_isOn 8 = .ok (.ireturn, 1) := dk_172 (dk_at dksX3_isOn_0 8 rfl rfl)
def dkwX3_size_0 : List UInt8 := [42, 180, 0, 10, 182, 0, 27, 172]
abbrev dktX3_size_0 : List UInt8 := dkwX3_size_0 ++ []
theorem dksX3_size_0 : cX3_size.data.toList.drop 0 = dktX3_size_0 := by decide +kernel
theorem dX3_size_0 : decode cX3_size 0 = .ok (.aload_n 0, 1) := dk_42 (dk_at dksX3_size_0 0 rfl rfl)
theorem dX3_size_1 : decode cX3_size 1 = .ok (.getfield 10, 3) := dk_180 0 10 (dk_at dksX3_size_0 1 rfl rfl)
theorem dX3_size_4 : decode cX3_size 4 = .ok (.invokevirtual 27, 3) := dk_182 0 27 (dk_at dksX3_size_0 4 rfl rfl)
theorem dX3_size_7 : decode cX3_size 7 = .ok (.ireturn, 1) := dk_172 (dk_at dksX3_size_0 7 rfl rfl)
def dkwX3_add_0 : List UInt8 := [42, 180, 0, 10, 43, 182, 0, 31, 87, 42, 180, 0, 19, 43, 180, 0, 35, 43, 182, 0, 41, 87, 177]
abbrev dktX3_add_0 : List UInt8 := dkwX3_add_0 ++ []
theorem dksX3_add_0 : cX3_add.data.toList.drop 0 = dktX3_add_0 := by decide +kernel
theorem dX3_add_0 : decode cX3_add 0 = .ok (.aload_n 0, 1) := dk_42 (dk_at dksX3_add_0 0 rfl rfl)
theorem dX3_add_1 : decode cX3_add 1 = .ok (.getfield 10, 3) := dk_180 0 10 (dk_at dksX3_add_0 1 rfl rfl)
theorem dX3_add_4 : decode cX3_add 4 = .ok (.aload_n 1, 1) := dk_43 (dk_at dksX3_add_0 4 rfl rfl)
theorem dX3_add_5 : decode cX3_add 5 = .ok (.invokevirtual 31, 3) := dk_182 0 31 (dk_at dksX3_add_0 5 rfl rfl)
theorem dX3_add_8 : decode cX3_add 8 = .ok (.pop, 1) := dk_87 (dk_at dksX3_add_0 8 rfl rfl)
theorem dX3_add_9 : decode cX3_add 9 = .ok (.aload_n 0, 1) := dk_42 (dk_at dksX3_add_0 9 rfl rfl)
theorem dX3_add_10 : decode cX3_add 10 = .ok (.getfield 19, 3) := dk_180 0 19 (dk_at dksX3_add_0 10 rfl rfl)
theorem dX3_add_13 : decode cX3_add 13 = .ok (.aload_n 1, 1) := dk_43 (dk_at dksX3_add_0 13 rfl rfl)
theorem dX3_add_14 : decode cX3_add 14 = .ok (.getfield 35, 3) := dk_180 0 35 (dk_at dksX3_add_0 14 rfl rfl)
theorem dX3_add_17 : decode cX3_add 17 = .ok (.aload_n 1, 1) := dk_43 (dk_at dksX3_add_0 17 rfl rfl)
theorem dX3_add_18 : decode cX3_add 18 = .ok (.invokevirtual 41, 3) := dk_182 0 41 (dk_at dksX3_add_0 18 rfl rfl)
theorem dX3_add_21 : decode cX3_add 21 = .ok (.pop, 1) := dk_87 (dk_at dksX3_add_0 21 rfl rfl)
theorem dX3_add_22 : decode cX3_add 22 = .ok (.return_, 1) := dk_177 (dk_at dksX3_add_0 22 rfl rfl)
def dkwX3_number_0 : List UInt8 := [42, 180, 0, 19, 43, 185, 0, 49, 1, 0, 182, 0, 55, 192, 0, 36, 180, 0, 58, 172]
abbrev dktX3_number_0 : List UInt8 := dkwX3_number_0 ++ []
theorem dksX3_number_0 : cX3_number.data.toList.drop 0 = dktX3_number_0 := by decide +kernel
theorem dX3_number_0 : decode cX3_number 0 = .ok (.aload_n 0, 1) := dk_42 (dk_at dksX3_number_0 0 rfl rfl)
theorem dX3_number_1 : decode cX3_number 1 = .ok (.getfield 19, 3) := dk_180 0 19 (dk_at dksX3_number_0 1 rfl rfl)
theorem dX3_number_4 : decode cX3_number 4 = .ok (.aload_n 1, 1) := dk_43 (dk_at dksX3_number_0 4 rfl rfl)
theorem dX3_number_5 : decode cX3_number 5 = .ok (.invokeinterface 49 1, 5) := by decide +kernel
theorem dX3_number_10 : decode cX3_number 10 = .ok (.invokevirtual 55, 3) := dk_182 0 55 (dk_at dksX3_number_0 10 rfl rfl)
theorem dX3_number_13 : decode cX3_number 13 = .ok (.checkcast 36, 3) := dk_192 0 36 (dk_at dksX3_number_0 13 rfl rfl)
theorem dX3_number_16 : decode cX3_number 16 = .ok (.getfield 58, 3) := dk_180 0 58 (dk_at dksX3_number_0 16 rfl rfl)
theorem dX3_number_19 : decode cX3_number 19 = .ok (.ireturn, 1) := dk_172 (dk_at dksX3_number_0 19 rfl rfl)
def dkwX3_get_0 : List UInt8 := [42, 180, 0, 10, 27, 182, 0, 45, 192, 0, 36, 176]
abbrev dktX3_get_0 : List UInt8 := dkwX3_get_0 ++ []
theorem dksX3_get_0 : cX3_get.data.toList.drop 0 = dktX3_get_0 := by decide +kernel
theorem dX3_get_0 : decode cX3_get 0 = .ok (.aload_n 0, 1) := dk_42 (dk_at dksX3_get_0 0 rfl rfl)
theorem dX3_get_1 : decode cX3_get 1 = .ok (.getfield 10, 3) := dk_180 0 10 (dk_at dksX3_get_0 1 rfl rfl)
theorem dX3_get_4 : decode cX3_get 4 = .ok (.iload_n 1, 1) := dk_27 (dk_at dksX3_get_0 4 rfl rfl)
theorem dX3_get_5 : decode cX3_get 5 = .ok (.invokevirtual 45, 3) := dk_182 0 45 (dk_at dksX3_get_0 5 rfl rfl)
theorem dX3_get_8 : decode cX3_get 8 = .ok (.checkcast 36, 3) := dk_192 0 36 (dk_at dksX3_get_0 8 rfl rfl)
theorem dX3_get_11 : decode cX3_get 11 = .ok (.areturn, 1) := dk_176 (dk_at dksX3_get_0 11 rfl rfl)
def dkwX3_isPlace_0 : List UInt8 := [27, 133, 9, 42, 182, 0, 64, 4, 100, 133, 184, 0, 65, 172]
abbrev dktX3_isPlace_0 : List UInt8 := dkwX3_isPlace_0 ++ []
theorem dksX3_isPlace_0 : cX3_isPlace.data.toList.drop 0 = dktX3_isPlace_0 := by decide +kernel
theorem dX3_isPlace_0 : decode cX3_isPlace 0 = .ok (.iload_n 1, 1) := dk_27 (dk_at dksX3_isPlace_0 0 rfl rfl)
theorem dX3_isPlace_1 : decode cX3_isPlace 1 = .ok (.i2l, 1) := dk_133 (dk_at dksX3_isPlace_0 1 rfl rfl)
theorem dX3_isPlace_2 : decode cX3_isPlace 2 = .ok (.lconst 0, 1) := dk_9 (dk_at dksX3_isPlace_0 2 rfl rfl)
theorem dX3_isPlace_3 : decode cX3_isPlace 3 = .ok (.aload_n 0, 1) := dk_42 (dk_at dksX3_isPlace_0 3 rfl rfl)
theorem dX3_isPlace_4 : decode cX3_isPlace 4 = .ok (.invokevirtual 64, 3) := dk_182 0 64 (dk_at dksX3_isPlace_0 4 rfl rfl)
theorem dX3_isPlace_7 : decode cX3_isPlace 7 = .ok (.iconst 1, 1) := dk_4 (dk_at dksX3_isPlace_0 7 rfl rfl)
theorem dX3_isPlace_8 : decode cX3_isPlace 8 = .ok (.isub, 1) := dk_100 (dk_at dksX3_isPlace_0 8 rfl rfl)
theorem dX3_isPlace_9 : decode cX3_isPlace 9 = .ok (.i2l, 1) := dk_133 (dk_at dksX3_isPlace_0 9 rfl rfl)
theorem dX3_isPlace_10 : decode cX3_isPlace 10 = .ok (.invokestatic 65, 3) := dk_184 0 65 (dk_at dksX3_isPlace_0 10 rfl rfl)
theorem dX3_isPlace_13 : decode cX3_isPlace 13 = .ok (.ireturn, 1) := dk_172 (dk_at dksX3_isPlace_0 13 rfl rfl)
def dkwX4_init_1 : List UInt8 := [42, 16, 6, 188, 10, 181, 0, 24, 177]
abbrev dktX4_init_1 : List UInt8 := dkwX4_init_1 ++ []
def dkwX4_init_0 : List UInt8 := [42, 183, 0, 3, 42, 16, 6, 189, 0, 9, 181, 0, 11, 42, 187, 0, 17, 89, 183, 0, 19, 181, 0, 20]
abbrev dktX4_init_0 : List UInt8 := dkwX4_init_0 ++ dktX4_init_1
theorem dksX4_init_0 : cX4_init.data.toList.drop 0 = dktX4_init_0 := by decide +kernel
theorem dksX4_init_1 : cX4_init.data.toList.drop 24 = dktX4_init_1 := dk_seg dksX4_init_0 24 rfl rfl
theorem dX4_init_0 : decode cX4_init 0 = .ok (.aload_n 0, 1) := dk_42 (dk_at dksX4_init_0 0 rfl rfl)
theorem dX4_init_1 : decode cX4_init 1 = .ok (.invokespecial 3, 3) := dk_183 0 3 (dk_at dksX4_init_0 1 rfl rfl)
theorem dX4_init_4 : decode cX4_init 4 = .ok (.aload_n 0, 1) := dk_42 (dk_at dksX4_init_0 4 rfl rfl)
theorem dX4_init_5 : decode cX4_init 5 = .ok (.bipush 6, 2) := dk_16 6 (dk_at dksX4_init_0 5 rfl rfl)
theorem dX4_init_7 : decode cX4_init 7 = .ok (.anewarray 9, 3) := dk_189 0 9 (dk_at dksX4_init_0 7 rfl rfl)
theorem dX4_init_10 : decode cX4_init 10 = .ok (.putfield 11, 3) := dk_181 0 11 (dk_at dksX4_init_0 10 rfl rfl)
theorem dX4_init_13 : decode cX4_init 13 = .ok (.aload_n 0, 1) := dk_42 (dk_at dksX4_init_0 13 rfl rfl)
theorem dX4_init_14 : decode cX4_init 14 = .ok (.new 17, 3) := dk_187 0 17 (dk_at dksX4_init_0 14 rfl rfl)
theorem dX4_init_17 : decode cX4_init 17 = .ok (.dup, 1) := dk_89 (dk_at dksX4_init_0 17 rfl rfl)
theorem dX4_init_18 : decode cX4_init 18 = .ok (.invokespecial 19, 3) := dk_183 0 19 (dk_at dksX4_init_0 18 rfl rfl)
theorem dX4_init_21 : decode cX4_init 21 = .ok (.putfield 20, 3) := dk_181 0 20 (dk_at dksX4_init_0 21 rfl rfl)
theorem dX4_init_24 : decode cX4_init 24 = .ok (.aload_n 0, 1) := dk_42 (dk_at dksX4_init_1 0 rfl rfl)
theorem dX4_init_25 : decode cX4_init 25 = .ok (.bipush 6, 2) := dk_16 6 (dk_at dksX4_init_1 1 rfl rfl)
theorem dX4_init_27 : decode cX4_init 27 = .ok (.newarray .int, 2) := dk_188_10 (dk_at dksX4_init_1 3 rfl rfl)
theorem dX4_init_29 : decode cX4_init 29 = .ok (.putfield 24, 3) := dk_181 0 24 (dk_at dksX4_init_1 5 rfl rfl)
theorem dX4_init_32 : decode cX4_init 32 = .ok (.return_, 1) := dk_177 (dk_at dksX4_init_1 8 rfl rfl)
def dkwX4_isWired_0 : List UInt8 := [42, 180, 0, 24, 27, 46, 28, 184, 0, 64, 172]
abbrev dktX4_isWired_0 : List UInt8 := dkwX4_isWired_0 ++ []
theorem dksX4_isWired_0 : cX4_isWired.data.toList.drop 0 = dktX4_isWired_0 := by decide +kernel
theorem dX4_isWired_0 : decode cX4_isWired 0 = .ok (.aload_n 0, 1) := dk_42 (dk_at dksX4_isWired_0 0 rfl rfl)
theorem dX4_isWired_1 : decode cX4_isWired 1 = .ok (.getfield 24, 3) := dk_180 0 24 (dk_at dksX4_isWired_0 1 rfl rfl)
theorem dX4_isWired_4 : decode cX4_isWired 4 = .ok (.iload_n 1, 1) := dk_27 (dk_at dksX4_isWired_0 4 rfl rfl)
theorem dX4_isWired_5 : decode cX4_isWired 5 = .ok (.iaload, 1) := dk_46 (dk_at dksX4_isWired_0 5 rfl rfl)
theorem dX4_isWired_6 : decode cX4_isWired 6 = .ok (.iload_n 2, 1) := dk_28 (dk_at dksX4_isWired_0 6 rfl rfl)
theorem dX4_isWired_7 : decode cX4_isWired 7 = .ok (.invokestatic 64, 3) := dk_184 0 64 (dk_at dksX4_isWired_0 7 rfl rfl)
theorem dX4_isWired_10 : decode cX4_isWired 10 = .ok (.ireturn, 1) := dk_172 (dk_at dksX4_isWired_0 10 rfl rfl)
def dkwX4_adds_0 : List UInt8 := [42, 180, 0, 20, 43, 182, 0, 37, 87, 42, 43, 182, 0, 41, 177]
abbrev dktX4_adds_0 : List UInt8 := dkwX4_adds_0 ++ []
theorem dksX4_adds_0 : cX4_adds.data.toList.drop 0 = dktX4_adds_0 := by decide +kernel
theorem dX4_adds_0 : decode cX4_adds 0 = .ok (.aload_n 0, 1) := dk_42 (dk_at dksX4_adds_0 0 rfl rfl)
theorem dX4_adds_1 : decode cX4_adds 1 = .ok (.getfield 20, 3) := dk_180 0 20 (dk_at dksX4_adds_0 1 rfl rfl)
theorem dX4_adds_4 : decode cX4_adds 4 = .ok (.aload_n 1, 1) := dk_43 (dk_at dksX4_adds_0 4 rfl rfl)
theorem dX4_adds_5 : decode cX4_adds 5 = .ok (.invokevirtual 37, 3) := dk_182 0 37 (dk_at dksX4_adds_0 5 rfl rfl)
theorem dX4_adds_8 : decode cX4_adds 8 = .ok (.pop, 1) := dk_87 (dk_at dksX4_adds_0 8 rfl rfl)
theorem dX4_adds_9 : decode cX4_adds 9 = .ok (.aload_n 0, 1) := dk_42 (dk_at dksX4_adds_0 9 rfl rfl)
theorem dX4_adds_10 : decode cX4_adds 10 = .ok (.aload_n 1, 1) := dk_43 (dk_at dksX4_adds_0 10 rfl rfl)
theorem dX4_adds_11 : decode cX4_adds 11 = .ok (.invokevirtual 41, 3) := dk_182 0 41 (dk_at dksX4_adds_0 11 rfl rfl)
theorem dX4_adds_14 : decode cX4_adds 14 = .ok (.return_, 1) := dk_177 (dk_at dksX4_adds_0 14 rfl rfl)
def dkwX4_changes_1 : List UInt8 := [182, 0, 58, 92, 46, 4, 43, 182, 0, 61, 120, 130, 79, 177]
abbrev dktX4_changes_1 : List UInt8 := dkwX4_changes_1 ++ []
def dkwX4_changes_0 : List UInt8 := [42, 180, 0, 24, 43, 182, 0, 51, 92, 46, 4, 43, 182, 0, 55, 120, 130, 79, 42, 180, 0, 24, 43]
abbrev dktX4_changes_0 : List UInt8 := dkwX4_changes_0 ++ dktX4_changes_1
theorem dksX4_changes_0 : cX4_changes.data.toList.drop 0 = dktX4_changes_0 := by decide +kernel
theorem dksX4_changes_1 : cX4_changes.data.toList.drop 23 = dktX4_changes_1 := dk_seg dksX4_changes_0 23 rfl rfl
theorem dX4_changes_0 : decode cX4_changes 0 = .ok (.aload_n 0, 1) := dk_42 (dk_at dksX4_changes_0 0 rfl rfl)
theorem dX4_changes_1 : decode cX4_changes 1 = .ok (.getfield 24, 3) := dk_180 0 24 (dk_at dksX4_changes_0 1 rfl rfl)
theorem dX4_changes_4 : decode cX4_changes 4 = .ok (.aload_n 1, 1) := dk_43 (dk_at dksX4_changes_0 4 rfl rfl)
theorem dX4_changes_5 : decode cX4_changes 5 = .ok (.invokevirtual 51, 3) := dk_182 0 51 (dk_at dksX4_changes_0 5 rfl rfl)
theorem dX4_changes_8 : decode cX4_changes 8 = .ok (.dup2, 1) := dk_92 (dk_at dksX4_changes_0 8 rfl rfl)
theorem dX4_changes_9 : decode cX4_changes 9 = .ok (.iaload, 1) := dk_46 (dk_at dksX4_changes_0 9 rfl rfl)
theorem dX4_changes_10 : decode cX4_changes 10 = .ok (.iconst 1, 1) := dk_4 (dk_at dksX4_changes_0 10 rfl rfl)
theorem dX4_changes_11 : decode cX4_changes 11 = .ok (.aload_n 1, 1) := dk_43 (dk_at dksX4_changes_0 11 rfl rfl)
theorem dX4_changes_12 : decode cX4_changes 12 = .ok (.invokevirtual 55, 3) := dk_182 0 55 (dk_at dksX4_changes_0 12 rfl rfl)
theorem dX4_changes_15 : decode cX4_changes 15 = .ok (.ishl, 1) := dk_120 (dk_at dksX4_changes_0 15 rfl rfl)
theorem dX4_changes_16 : decode cX4_changes 16 = .ok (.ixor, 1) := dk_130 (dk_at dksX4_changes_0 16 rfl rfl)
theorem dX4_changes_17 : decode cX4_changes 17 = .ok (.iastore, 1) := dk_79 (dk_at dksX4_changes_0 17 rfl rfl)
theorem dX4_changes_18 : decode cX4_changes 18 = .ok (.aload_n 0, 1) := dk_42 (dk_at dksX4_changes_0 18 rfl rfl)
theorem dX4_changes_19 : decode cX4_changes 19 = .ok (.getfield 24, 3) := dk_180 0 24 (dk_at dksX4_changes_0 19 rfl rfl)
theorem dX4_changes_22 : decode cX4_changes 22 = .ok (.aload_n 1, 1) := dk_43 (dk_at dksX4_changes_0 22 rfl rfl)
theorem dX4_changes_23 : decode cX4_changes 23 = .ok (.invokevirtual 58, 3) := dk_182 0 58 (dk_at dksX4_changes_1 0 rfl rfl)
theorem dX4_changes_26 : decode cX4_changes 26 = .ok (.dup2, 1) := dk_92 (dk_at dksX4_changes_1 3 rfl rfl)
theorem dX4_changes_27 : decode cX4_changes 27 = .ok (.iaload, 1) := dk_46 (dk_at dksX4_changes_1 4 rfl rfl)
theorem dX4_changes_28 : decode cX4_changes 28 = .ok (.iconst 1, 1) := dk_4 (dk_at dksX4_changes_1 5 rfl rfl)
theorem dX4_changes_29 : decode cX4_changes 29 = .ok (.aload_n 1, 1) := dk_43 (dk_at dksX4_changes_1 6 rfl rfl)
theorem dX4_changes_30 : decode cX4_changes 30 = .ok (.invokevirtual 61, 3) := dk_182 0 61 (dk_at dksX4_changes_1 7 rfl rfl)
theorem dX4_changes_33 : decode cX4_changes 33 = .ok (.ishl, 1) := dk_120 (dk_at dksX4_changes_1 10 rfl rfl)
theorem dX4_changes_34 : decode cX4_changes 34 = .ok (.ixor, 1) := dk_130 (dk_at dksX4_changes_1 11 rfl rfl)
theorem dX4_changes_35 : decode cX4_changes 35 = .ok (.iastore, 1) := dk_79 (dk_at dksX4_changes_1 12 rfl rfl)
theorem dX4_changes_36 : decode cX4_changes 36 = .ok (.return_, 1) := dk_177 (dk_at dksX4_changes_1 13 rfl rfl)
def dkwX4_init_2_3 : List UInt8 := [182, 0, 33, 87, 177]
abbrev dktX4_init_2_3 : List UInt8 := dkwX4_init_2_3 ++ []
def dkwX4_init_2_2 : List UInt8 := [180, 0, 24, 3, 42, 180, 0, 24, 3, 16, 6, 184, 0, 27, 42, 180, 0, 20, 43, 180, 0, 20]
abbrev dktX4_init_2_2 : List UInt8 := dkwX4_init_2_2 ++ dktX4_init_2_3
def dkwX4_init_2_1 : List UInt8 := [42, 16, 6, 188, 10, 181, 0, 24, 43, 180, 0, 11, 3, 42, 180, 0, 11, 3, 16, 6, 184, 0, 27, 43]
abbrev dktX4_init_2_1 : List UInt8 := dkwX4_init_2_1 ++ dktX4_init_2_2
def dkwX4_init_2_0 : List UInt8 := [42, 183, 0, 3, 42, 16, 6, 189, 0, 9, 181, 0, 11, 42, 187, 0, 17, 89, 183, 0, 19, 181, 0, 20]
abbrev dktX4_init_2_0 : List UInt8 := dkwX4_init_2_0 ++ dktX4_init_2_1
theorem dksX4_init_2_0 : cX4_init_2.data.toList.drop 0 = dktX4_init_2_0 := by decide +kernel
theorem dksX4_init_2_1 : cX4_init_2.data.toList.drop 24 = dktX4_init_2_1 := dk_seg dksX4_init_2_0 24 rfl rfl
theorem dksX4_init_2_2 : cX4_init_2.data.toList.drop 48 = dktX4_init_2_2 := dk_seg dksX4_init_2_1 24 rfl rfl
theorem dksX4_init_2_3 : cX4_init_2.data.toList.drop 70 = dktX4_init_2_3 := dk_seg dksX4_init_2_2 22 rfl rfl
theorem dX4_init_2_0 : decode cX4_init_2 0 = .ok (.aload_n 0, 1) := dk_42 (dk_at dksX4_init_2_0 0 rfl rfl)
theorem dX4_init_2_1 : decode cX4_init_2 1 = .ok (.invokespecial 3, 3) := dk_183 0 3 (dk_at dksX4_init_2_0 1 rfl rfl)
theorem dX4_init_2_4 : decode cX4_init_2 4 = .ok (.aload_n 0, 1) := dk_42 (dk_at dksX4_init_2_0 4 rfl rfl)
theorem dX4_init_2_5 : decode cX4_init_2 5 = .ok (.bipush 6, 2) := dk_16 6 (dk_at dksX4_init_2_0 5 rfl rfl)
theorem dX4_init_2_7 : decode cX4_init_2 7 = .ok (.anewarray 9, 3) := dk_189 0 9 (dk_at dksX4_init_2_0 7 rfl rfl)
theorem dX4_init_2_10 : decode cX4_init_2 10 = .ok (.putfield 11, 3) := dk_181 0 11 (dk_at dksX4_init_2_0 10 rfl rfl)
theorem dX4_init_2_13 : decode cX4_init_2 13 = .ok (.aload_n 0, 1) := dk_42 (dk_at dksX4_init_2_0 13 rfl rfl)
theorem dX4_init_2_14 : decode cX4_init_2 14 = .ok (.new 17, 3) := dk_187 0 17 (dk_at dksX4_init_2_0 14 rfl rfl)
theorem dX4_init_2_17 : decode cX4_init_2 17 = .ok (.dup, 1) := dk_89 (dk_at dksX4_init_2_0 17 rfl rfl)
theorem dX4_init_2_18 : decode cX4_init_2 18 = .ok (.invokespecial 19, 3) := dk_183 0 19 (dk_at dksX4_init_2_0 18 rfl rfl)
theorem dX4_init_2_21 : decode cX4_init_2 21 = .ok (.putfield 20, 3) := dk_181 0 20 (dk_at dksX4_init_2_0 21 rfl rfl)
theorem dX4_init_2_24 : decode cX4_init_2 24 = .ok (.aload_n 0, 1) := dk_42 (dk_at dksX4_init_2_1 0 rfl rfl)
theorem dX4_init_2_25 : decode cX4_init_2 25 = .ok (.bipush 6, 2) := dk_16 6 (dk_at dksX4_init_2_1 1 rfl rfl)
theorem dX4_init_2_27 : decode cX4_init_2 27 = .ok (.newarray .int, 2) := dk_188_10 (dk_at dksX4_init_2_1 3 rfl rfl)
theorem dX4_init_2_29 : decode cX4_init_2 29 = .ok (.putfield 24, 3) := dk_181 0 24 (dk_at dksX4_init_2_1 5 rfl rfl)
theorem dX4_init_2_32 : decode cX4_init_2 32 = .ok (.aload_n 1, 1) := dk_43 (dk_at dksX4_init_2_1 8 rfl rfl)
theorem dX4_init_2_33 : decode cX4_init_2 33 = .ok (.getfield 11, 3) := dk_180 0 11 (dk_at dksX4_init_2_1 9 rfl rfl)
theorem dX4_init_2_36 : decode cX4_init_2 36 = .ok (.iconst 0, 1) := dk_3 (dk_at dksX4_init_2_1 12 rfl rfl)
theorem dX4_init_2_37 : decode cX4_init_2 37 = .ok (.aload_n 0, 1) := dk_42 (dk_at dksX4_init_2_1 13 rfl rfl)
theorem dX4_init_2_38 : decode cX4_init_2 38 = .ok (.getfield 11, 3) := dk_180 0 11 (dk_at dksX4_init_2_1 14 rfl rfl)
theorem dX4_init_2_41 : decode cX4_init_2 41 = .ok (.iconst 0, 1) := dk_3 (dk_at dksX4_init_2_1 17 rfl rfl)
theorem dX4_init_2_42 : decode cX4_init_2 42 = .ok (.bipush 6, 2) := dk_16 6 (dk_at dksX4_init_2_1 18 rfl rfl)
theorem dX4_init_2_44 : decode cX4_init_2 44 = .ok (.invokestatic 27, 3) := dk_184 0 27 (dk_at dksX4_init_2_1 20 rfl rfl)
theorem dX4_init_2_47 : decode cX4_init_2 47 = .ok (.aload_n 1, 1) := dk_43 (dk_at dksX4_init_2_1 23 rfl rfl)
theorem dX4_init_2_48 : decode cX4_init_2 48 = .ok (.getfield 24, 3) := dk_180 0 24 (dk_at dksX4_init_2_2 0 rfl rfl)
theorem dX4_init_2_51 : decode cX4_init_2 51 = .ok (.iconst 0, 1) := dk_3 (dk_at dksX4_init_2_2 3 rfl rfl)
theorem dX4_init_2_52 : decode cX4_init_2 52 = .ok (.aload_n 0, 1) := dk_42 (dk_at dksX4_init_2_2 4 rfl rfl)
theorem dX4_init_2_53 : decode cX4_init_2 53 = .ok (.getfield 24, 3) := dk_180 0 24 (dk_at dksX4_init_2_2 5 rfl rfl)
theorem dX4_init_2_56 : decode cX4_init_2 56 = .ok (.iconst 0, 1) := dk_3 (dk_at dksX4_init_2_2 8 rfl rfl)
theorem dX4_init_2_57 : decode cX4_init_2 57 = .ok (.bipush 6, 2) := dk_16 6 (dk_at dksX4_init_2_2 9 rfl rfl)
theorem dX4_init_2_59 : decode cX4_init_2 59 = .ok (.invokestatic 27, 3) := dk_184 0 27 (dk_at dksX4_init_2_2 11 rfl rfl)
theorem dX4_init_2_62 : decode cX4_init_2 62 = .ok (.aload_n 0, 1) := dk_42 (dk_at dksX4_init_2_2 14 rfl rfl)
theorem dX4_init_2_63 : decode cX4_init_2 63 = .ok (.getfield 20, 3) := dk_180 0 20 (dk_at dksX4_init_2_2 15 rfl rfl)
theorem dX4_init_2_66 : decode cX4_init_2 66 = .ok (.aload_n 1, 1) := dk_43 (dk_at dksX4_init_2_2 18 rfl rfl)
theorem dX4_init_2_67 : decode cX4_init_2 67 = .ok (.getfield 20, 3) := dk_180 0 20 (dk_at dksX4_init_2_2 19 rfl rfl)
theorem dX4_init_2_70 : decode cX4_init_2 70 = .ok (.invokevirtual 33, 3) := dk_182 0 33 (dk_at dksX4_init_2_3 0 rfl rfl)
theorem dX4_init_2_73 : decode cX4_init_2 73 = .ok (.pop, 1) := dk_87 (dk_at dksX4_init_2_3 3 rfl rfl)
theorem dX4_init_2_74 : decode cX4_init_2 74 = .ok (.return_, 1) := dk_177 (dk_at dksX4_init_2_3 4 rfl rfl)
def dkwX4_cuts_0 : List UInt8 := [42, 42, 180, 0, 20, 27, 182, 0, 45, 192, 0, 49, 182, 0, 41, 177]
abbrev dktX4_cuts_0 : List UInt8 := dkwX4_cuts_0 ++ []
theorem dksX4_cuts_0 : cX4_cuts.data.toList.drop 0 = dktX4_cuts_0 := by decide +kernel
theorem dX4_cuts_0 : decode cX4_cuts 0 = .ok (.aload_n 0, 1) := dk_42 (dk_at dksX4_cuts_0 0 rfl rfl)
theorem dX4_cuts_1 : decode cX4_cuts 1 = .ok (.aload_n 0, 1) := dk_42 (dk_at dksX4_cuts_0 1 rfl rfl)
theorem dX4_cuts_2 : decode cX4_cuts 2 = .ok (.getfield 20, 3) := dk_180 0 20 (dk_at dksX4_cuts_0 2 rfl rfl)
theorem dX4_cuts_5 : decode cX4_cuts 5 = .ok (.iload_n 1, 1) := dk_27 (dk_at dksX4_cuts_0 5 rfl rfl)
theorem dX4_cuts_6 : decode cX4_cuts 6 = .ok (.invokevirtual 45, 3) := dk_182 0 45 (dk_at dksX4_cuts_0 6 rfl rfl)
theorem dX4_cuts_9 : decode cX4_cuts 9 = .ok (.checkcast 49, 3) := dk_192 0 49 (dk_at dksX4_cuts_0 9 rfl rfl)
theorem dX4_cuts_12 : decode cX4_cuts 12 = .ok (.invokevirtual 41, 3) := dk_182 0 41 (dk_at dksX4_cuts_0 12 rfl rfl)
theorem dX4_cuts_15 : decode cX4_cuts 15 = .ok (.return_, 1) := dk_177 (dk_at dksX4_cuts_0 15 rfl rfl)
def dkwX6_init_2 : List UInt8 := [42, 2, 181, 0, 42, 42, 28, 181, 0, 46, 177]
abbrev dktX6_init_2 : List UInt8 := dkwX6_init_2 ++ []
def dkwX6_init_1 : List UInt8 := [89, 183, 0, 24, 181, 0, 25, 42, 187, 0, 29, 89, 183, 0, 31, 181, 0, 32, 42, 18, 36, 181, 0, 38]
abbrev dktX6_init_1 : List UInt8 := dkwX6_init_1 ++ dktX6_init_2
def dkwX6_init_0 : List UInt8 := [42, 43, 181, 0, 3, 42, 183, 0, 9, 42, 187, 0, 15, 89, 183, 0, 17, 181, 0, 18, 42, 187, 0, 22]
abbrev dktX6_init_0 : List UInt8 := dkwX6_init_0 ++ dktX6_init_1
theorem dksX6_init_0 : cX6_init.data.toList.drop 0 = dktX6_init_0 := by decide +kernel
theorem dksX6_init_1 : cX6_init.data.toList.drop 24 = dktX6_init_1 := dk_seg dksX6_init_0 24 rfl rfl
theorem dksX6_init_2 : cX6_init.data.toList.drop 48 = dktX6_init_2 := dk_seg dksX6_init_1 24 rfl rfl
theorem dX6_init_0 : decode cX6_init 0 = .ok (.aload_n 0, 1) := dk_42 (dk_at dksX6_init_0 0 rfl rfl)
theorem dX6_init_1 : decode cX6_init 1 = .ok (.aload_n 1, 1) := dk_43 (dk_at dksX6_init_0 1 rfl rfl)
theorem dX6_init_2 : decode cX6_init 2 = .ok (.putfield 3, 3) := dk_181 0 3 (dk_at dksX6_init_0 2 rfl rfl)
theorem dX6_init_5 : decode cX6_init 5 = .ok (.aload_n 0, 1) := dk_42 (dk_at dksX6_init_0 5 rfl rfl)
theorem dX6_init_6 : decode cX6_init 6 = .ok (.invokespecial 9, 3) := dk_183 0 9 (dk_at dksX6_init_0 6 rfl rfl)
theorem dX6_init_9 : decode cX6_init 9 = .ok (.aload_n 0, 1) := dk_42 (dk_at dksX6_init_0 9 rfl rfl)
theorem dX6_init_10 : decode cX6_init 10 = .ok (.new 15, 3) := dk_187 0 15 (dk_at dksX6_init_0 10 rfl rfl)
theorem dX6_init_13 : decode cX6_init 13 = .ok (.dup, 1) := dk_89 (dk_at dksX6_init_0 13 rfl rfl)
theorem dX6_init_14 : decode cX6_init 14 = .ok (.invokespecial 17, 3) := dk_183 0 17 (dk_at dksX6_init_0 14 rfl rfl)
theorem dX6_init_17 : decode cX6_init 17 = .ok (.putfield 18, 3) := dk_181 0 18 (dk_at dksX6_init_0 17 rfl rfl)
theorem dX6_init_20 : decode cX6_init 20 = .ok (.aload_n 0, 1) := dk_42 (dk_at dksX6_init_0 20 rfl rfl)
theorem dX6_init_21 : decode cX6_init 21 = .ok (.new 22, 3) := dk_187 0 22 (dk_at dksX6_init_0 21 rfl rfl)
theorem dX6_init_24 : decode cX6_init 24 = .ok (.dup, 1) := dk_89 (dk_at dksX6_init_1 0 rfl rfl)
theorem dX6_init_25 : decode cX6_init 25 = .ok (.invokespecial 24, 3) := dk_183 0 24 (dk_at dksX6_init_1 1 rfl rfl)
theorem dX6_init_28 : decode cX6_init 28 = .ok (.putfield 25, 3) := dk_181 0 25 (dk_at dksX6_init_1 4 rfl rfl)
theorem dX6_init_31 : decode cX6_init 31 = .ok (.aload_n 0, 1) := dk_42 (dk_at dksX6_init_1 7 rfl rfl)
theorem dX6_init_32 : decode cX6_init 32 = .ok (.new 29, 3) := dk_187 0 29 (dk_at dksX6_init_1 8 rfl rfl)
theorem dX6_init_35 : decode cX6_init 35 = .ok (.dup, 1) := dk_89 (dk_at dksX6_init_1 11 rfl rfl)
theorem dX6_init_36 : decode cX6_init 36 = .ok (.invokespecial 31, 3) := dk_183 0 31 (dk_at dksX6_init_1 12 rfl rfl)
theorem dX6_init_39 : decode cX6_init 39 = .ok (.putfield 32, 3) := dk_181 0 32 (dk_at dksX6_init_1 15 rfl rfl)
theorem dX6_init_42 : decode cX6_init 42 = .ok (.aload_n 0, 1) := dk_42 (dk_at dksX6_init_1 18 rfl rfl)
theorem dX6_init_43 : decode cX6_init 43 = .ok (.ldc 36, 2) := dk_18 36 (dk_at dksX6_init_1 19 rfl rfl)
theorem dX6_init_45 : decode cX6_init 45 = .ok (.putfield 38, 3) := dk_181 0 38 (dk_at dksX6_init_1 21 rfl rfl)
theorem dX6_init_48 : decode cX6_init 48 = .ok (.aload_n 0, 1) := dk_42 (dk_at dksX6_init_2 0 rfl rfl)
theorem dX6_init_49 : decode cX6_init 49 = .ok (.iconst (-1), 1) := dk_2 (dk_at dksX6_init_2 1 rfl rfl)
theorem dX6_init_50 : decode cX6_init 50 = .ok (.putfield 42, 3) := dk_181 0 42 (dk_at dksX6_init_2 2 rfl rfl)
theorem dX6_init_53 : decode cX6_init 53 = .ok (.aload_n 0, 1) := dk_42 (dk_at dksX6_init_2 5 rfl rfl)
theorem dX6_init_54 : decode cX6_init 54 = .ok (.iload_n 2, 1) := dk_28 (dk_at dksX6_init_2 6 rfl rfl)
theorem dX6_init_55 : decode cX6_init 55 = .ok (.putfield 46, 3) := dk_181 0 46 (dk_at dksX6_init_2 7 rfl rfl)
theorem dX6_init_58 : decode cX6_init 58 = .ok (.return_, 1) := dk_177 (dk_at dksX6_init_2 10 rfl rfl)
def dkwX6_read_11 : List UInt8 := [183, 0, 110, 191, 42, 182, 1, 21, 167, 255, 33, 177]
abbrev dktX6_read_11 : List UInt8 := dkwX6_read_11 ++ []
def dkwX6_read_10 : List UInt8 := [182, 1, 30, 167, 0, 23, 42, 182, 1, 32, 167, 0, 16, 187, 0, 108, 89, 42, 180, 0, 60, 4]
abbrev dktX6_read_10 : List UInt8 := dkwX6_read_10 ++ dktX6_read_11
def dkwX6_read_9 : List UInt8 := [42, 182, 1, 24, 167, 0, 44, 42, 182, 1, 26, 167, 0, 37, 42, 182, 1, 28, 167, 0, 30, 42]
abbrev dktX6_read_9 : List UInt8 := dkwX6_read_9 ++ dktX6_read_10
def dkwX6_read_8 : List UInt8 := [170, 0, 0, 0, 0, 0, 0, 71, 0, 0, 0, 0, 0, 0, 0, 4, 0, 0, 0, 36, 0, 0, 0, 43, 0, 0, 0, 50, 0, 0, 0, 57, 0, 0, 0, 64]
abbrev dktX6_read_8 : List UInt8 := dkwX6_read_8 ++ dktX6_read_9
def dkwX6_read_7 : List UInt8 := [153, 0, 19, 6, 61, 167, 0, 14, 43, 18, 132, 182, 0, 118, 153, 0, 5, 7, 61, 28]
abbrev dktX6_read_7 : List UInt8 := dkwX6_read_7 ++ dktX6_read_8
def dkwX6_read_6 : List UInt8 := [61, 167, 0, 42, 43, 18, 128, 182, 0, 118, 153, 0, 33, 5, 61, 167, 0, 28, 43, 18, 130, 182, 0, 118]
abbrev dktX6_read_6 : List UInt8 := dkwX6_read_6 ++ dktX6_read_7
def dkwX6_read_5 : List UInt8 := [43, 18, 124, 182, 0, 118, 153, 0, 61, 3, 61, 167, 0, 56, 43, 18, 126, 182, 0, 118, 153, 0, 47, 4]
abbrev dktX6_read_5 : List UInt8 := dkwX6_read_5 ++ dktX6_read_6
def dkwX6_read_4 : List UInt8 := [171, 0, 0, 0, 116, 0, 0, 0, 5, 0, 46, 6, 209, 0, 0, 0, 77, 0, 48, 76, 203, 0, 0, 0, 63, 0, 51, 174, 2, 0, 0, 0, 91, 0, 55, 176, 133, 0, 0, 0, 105, 6, 144, 59, 206, 0, 0, 0, 49]
abbrev dktX6_read_4 : List UInt8 := dkwX6_read_4 ++ dktX6_read_5
def dkwX6_read_3 : List UInt8 := [43, 182, 0, 113]
abbrev dktX6_read_3 : List UInt8 := dkwX6_read_3 ++ dktX6_read_4
def dkwX6_read_2 : List UInt8 := [182, 0, 169, 181, 0, 172, 42, 182, 1, 21, 42, 180, 0, 67, 154, 0, 222, 42, 180, 0, 38, 76, 2, 61]
abbrev dktX6_read_2 : List UInt8 := dkwX6_read_2 ++ dktX6_read_3
def dkwX6_read_1 : List UInt8 := [182, 0, 138, 42, 42, 180, 0, 42, 184, 1, 17, 7, 182, 0, 134, 42, 180, 0, 18, 42, 6, 16, 97]
abbrev dktX6_read_1 : List UInt8 := dkwX6_read_1 ++ dktX6_read_2
def dkwX6_read_0 : List UInt8 := [42, 182, 0, 141, 42, 180, 0, 38, 18, 122, 182, 0, 118, 153, 0, 44, 42, 182, 0, 141, 42, 6, 16, 97]
abbrev dktX6_read_0 : List UInt8 := dkwX6_read_0 ++ dktX6_read_1
theorem dksX6_read_0 : cX6_read.data.toList.drop 0 = dktX6_read_0 := by decide +kernel
theorem dksX6_read_1 : cX6_read.data.toList.drop 24 = dktX6_read_1 := dk_seg dksX6_read_0 24 rfl rfl
theorem dksX6_read_2 : cX6_read.data.toList.drop 47 = dktX6_read_2 := dk_seg dksX6_read_1 23 rfl rfl
theorem dksX6_read_3 : cX6_read.data.toList.drop 71 = dktX6_read_3 := dk_seg dksX6_read_2 24 rfl rfl
theorem dksX6_read_4 : cX6_read.data.toList.drop 75 = dktX6_read_4 := dk_seg dksX6_read_3 4 rfl rfl
theorem dksX6_read_5 : cX6_read.data.toList.drop 124 = dktX6_read_5 := dk_seg dksX6_read_4 49 rfl rfl
theorem dksX6_read_6 : cX6_read.data.toList.drop 148 = dktX6_read_6 := dk_seg dksX6_read_5 24 rfl rfl
theorem dksX6_read_7 : cX6_read.data.toList.drop 172 = dktX6_read_7 := dk_seg dksX6_read_6 24 rfl rfl
theorem dksX6_read_8 : cX6_read.data.toList.drop 192 = dktX6_read_8 := dk_seg dksX6_read_7 20 rfl rfl
theorem dksX6_read_9 : cX6_read.data.toList.drop 228 = dktX6_read_9 := dk_seg dksX6_read_8 36 rfl rfl
theorem dksX6_read_10 : cX6_read.data.toList.drop 250 = dktX6_read_10 := dk_seg dksX6_read_9 22 rfl rfl
theorem dksX6_read_11 : cX6_read.data.toList.drop 272 = dktX6_read_11 := dk_seg dksX6_read_10 22 rfl rfl
theorem dX6_read_0 : decode cX6_read 0 = .ok (.aload_n 0, 1) := dk_42 (dk_at dksX6_read_0 0 rfl rfl)
theorem dX6_read_1 : decode cX6_read 1 = .ok (.invokevirtual 141, 3) := dk_182 0 141 (dk_at dksX6_read_0 1 rfl rfl)
theorem dX6_read_4 : decode cX6_read 4 = .ok (.aload_n 0, 1) := dk_42 (dk_at dksX6_read_0 4 rfl rfl)
theorem dX6_read_5 : decode cX6_read 5 = .ok (.getfield 38, 3) := dk_180 0 38 (dk_at dksX6_read_0 5 rfl rfl)
theorem dX6_read_8 : decode cX6_read 8 = .ok (.ldc 122, 2) := dk_18 122 (dk_at dksX6_read_0 8 rfl rfl)
theorem dX6_read_10 : decode cX6_read 10 = .ok (.invokevirtual 118, 3) := dk_182 0 118 (dk_at dksX6_read_0 10 rfl rfl)
theorem dX6_read_13 : decode cX6_read 13 = .ok (.ifCond .eq 44, 3) := dk_153 0 44 (dk_at dksX6_read_0 13 rfl rfl)
theorem dX6_read_16 : decode cX6_read 16 = .ok (.aload_n 0, 1) := dk_42 (dk_at dksX6_read_0 16 rfl rfl)
theorem dX6_read_17 : decode cX6_read 17 = .ok (.invokevirtual 141, 3) := dk_182 0 141 (dk_at dksX6_read_0 17 rfl rfl)
theorem dX6_read_20 : decode cX6_read 20 = .ok (.aload_n 0, 1) := dk_42 (dk_at dksX6_read_0 20 rfl rfl)
theorem dX6_read_21 : decode cX6_read 21 = .ok (.iconst 3, 1) := dk_6 (dk_at dksX6_read_0 21 rfl rfl)
theorem dX6_read_22 : decode cX6_read 22 = .ok (.bipush 97, 2) := dk_16 97 (dk_at dksX6_read_0 22 rfl rfl)
theorem dX6_read_24 : decode cX6_read 24 = .ok (.invokevirtual 138, 3) := dk_182 0 138 (dk_at dksX6_read_1 0 rfl rfl)
theorem dX6_read_27 : decode cX6_read 27 = .ok (.aload_n 0, 1) := dk_42 (dk_at dksX6_read_1 3 rfl rfl)
theorem dX6_read_28 : decode cX6_read 28 = .ok (.aload_n 0, 1) := dk_42 (dk_at dksX6_read_1 4 rfl rfl)
theorem dX6_read_29 : decode cX6_read 29 = .ok (.getfield 42, 3) := dk_180 0 42 (dk_at dksX6_read_1 5 rfl rfl)
theorem dX6_read_32 : decode cX6_read 32 = .ok (.invokestatic 273, 3) := dk_184 1 17 (dk_at dksX6_read_1 8 rfl rfl)
theorem dX6_read_35 : decode cX6_read 35 = .ok (.iconst 4, 1) := dk_7 (dk_at dksX6_read_1 11 rfl rfl)
theorem dX6_read_36 : decode cX6_read 36 = .ok (.invokevirtual 134, 3) := dk_182 0 134 (dk_at dksX6_read_1 12 rfl rfl)
theorem dX6_read_39 : decode cX6_read 39 = .ok (.aload_n 0, 1) := dk_42 (dk_at dksX6_read_1 15 rfl rfl)
theorem dX6_read_40 : decode cX6_read 40 = .ok (.getfield 18, 3) := dk_180 0 18 (dk_at dksX6_read_1 16 rfl rfl)
theorem dX6_read_43 : decode cX6_read 43 = .ok (.aload_n 0, 1) := dk_42 (dk_at dksX6_read_1 19 rfl rfl)
theorem dX6_read_44 : decode cX6_read 44 = .ok (.iconst 3, 1) := dk_6 (dk_at dksX6_read_1 20 rfl rfl)
theorem dX6_read_45 : decode cX6_read 45 = .ok (.bipush 97, 2) := dk_16 97 (dk_at dksX6_read_1 21 rfl rfl)
theorem dX6_read_47 : decode cX6_read 47 = .ok (.invokevirtual 169, 3) := dk_182 0 169 (dk_at dksX6_read_2 0 rfl rfl)
theorem dX6_read_50 : decode cX6_read 50 = .ok (.putfield 172, 3) := dk_181 0 172 (dk_at dksX6_read_2 3 rfl rfl)
theorem dX6_read_53 : decode cX6_read 53 = .ok (.aload_n 0, 1) := dk_42 (dk_at dksX6_read_2 6 rfl rfl)
theorem dX6_read_54 : decode cX6_read 54 = .ok (.invokevirtual 277, 3) := dk_182 1 21 (dk_at dksX6_read_2 7 rfl rfl)
theorem dX6_read_57 : decode cX6_read 57 = .ok (.aload_n 0, 1) := dk_42 (dk_at dksX6_read_2 10 rfl rfl)
theorem dX6_read_58 : decode cX6_read 58 = .ok (.getfield 67, 3) := dk_180 0 67 (dk_at dksX6_read_2 11 rfl rfl)
theorem dX6_read_61 : decode cX6_read 61 = .ok (.ifCond .ne 222, 3) := dk_154 0 222 (dk_at dksX6_read_2 14 rfl rfl)
theorem dX6_read_64 : decode cX6_read 64 = .ok (.aload_n 0, 1) := dk_42 (dk_at dksX6_read_2 17 rfl rfl)
theorem dX6_read_65 : decode cX6_read 65 = .ok (.getfield 38, 3) := dk_180 0 38 (dk_at dksX6_read_2 18 rfl rfl)
theorem dX6_read_68 : decode cX6_read 68 = .ok (.astore_n 1, 1) := dk_76 (dk_at dksX6_read_2 21 rfl rfl)
theorem dX6_read_69 : decode cX6_read 69 = .ok (.iconst (-1), 1) := dk_2 (dk_at dksX6_read_2 22 rfl rfl)
theorem dX6_read_70 : decode cX6_read 70 = .ok (.istore_n 2, 1) := dk_61 (dk_at dksX6_read_2 23 rfl rfl)
theorem dX6_read_71 : decode cX6_read 71 = .ok (.aload_n 1, 1) := dk_43 (dk_at dksX6_read_3 0 rfl rfl)
theorem dX6_read_72 : decode cX6_read 72 = .ok (.invokevirtual 113, 3) := dk_182 0 113 (dk_at dksX6_read_3 1 rfl rfl)
theorem dX6_read_75 : decode cX6_read 75 = .ok (.lookupswitch 116 #[(3016401, 77), (3165387, 63), (3386882, 91), (3649669, 105), (110115790, 49)], 49) := by decide +kernel
theorem dX6_read_124 : decode cX6_read 124 = .ok (.aload_n 1, 1) := dk_43 (dk_at dksX6_read_5 0 rfl rfl)
theorem dX6_read_125 : decode cX6_read 125 = .ok (.ldc 124, 2) := dk_18 124 (dk_at dksX6_read_5 1 rfl rfl)
theorem dX6_read_127 : decode cX6_read 127 = .ok (.invokevirtual 118, 3) := dk_182 0 118 (dk_at dksX6_read_5 3 rfl rfl)
theorem dX6_read_130 : decode cX6_read 130 = .ok (.ifCond .eq 61, 3) := dk_153 0 61 (dk_at dksX6_read_5 6 rfl rfl)
theorem dX6_read_133 : decode cX6_read 133 = .ok (.iconst 0, 1) := dk_3 (dk_at dksX6_read_5 9 rfl rfl)
theorem dX6_read_134 : decode cX6_read 134 = .ok (.istore_n 2, 1) := dk_61 (dk_at dksX6_read_5 10 rfl rfl)
theorem dX6_read_135 : decode cX6_read 135 = .ok (.goto 56, 3) := dk_167 0 56 (dk_at dksX6_read_5 11 rfl rfl)
theorem dX6_read_138 : decode cX6_read 138 = .ok (.aload_n 1, 1) := dk_43 (dk_at dksX6_read_5 14 rfl rfl)
theorem dX6_read_139 : decode cX6_read 139 = .ok (.ldc 126, 2) := dk_18 126 (dk_at dksX6_read_5 15 rfl rfl)
theorem dX6_read_141 : decode cX6_read 141 = .ok (.invokevirtual 118, 3) := dk_182 0 118 (dk_at dksX6_read_5 17 rfl rfl)
theorem dX6_read_144 : decode cX6_read 144 = .ok (.ifCond .eq 47, 3) := dk_153 0 47 (dk_at dksX6_read_5 20 rfl rfl)
theorem dX6_read_147 : decode cX6_read 147 = .ok (.iconst 1, 1) := dk_4 (dk_at dksX6_read_5 23 rfl rfl)
theorem dX6_read_148 : decode cX6_read 148 = .ok (.istore_n 2, 1) := dk_61 (dk_at dksX6_read_6 0 rfl rfl)
theorem dX6_read_149 : decode cX6_read 149 = .ok (.goto 42, 3) := dk_167 0 42 (dk_at dksX6_read_6 1 rfl rfl)
theorem dX6_read_152 : decode cX6_read 152 = .ok (.aload_n 1, 1) := dk_43 (dk_at dksX6_read_6 4 rfl rfl)
theorem dX6_read_153 : decode cX6_read 153 = .ok (.ldc 128, 2) := dk_18 128 (dk_at dksX6_read_6 5 rfl rfl)
theorem dX6_read_155 : decode cX6_read 155 = .ok (.invokevirtual 118, 3) := dk_182 0 118 (dk_at dksX6_read_6 7 rfl rfl)
theorem dX6_read_158 : decode cX6_read 158 = .ok (.ifCond .eq 33, 3) := dk_153 0 33 (dk_at dksX6_read_6 10 rfl rfl)
theorem dX6_read_161 : decode cX6_read 161 = .ok (.iconst 2, 1) := dk_5 (dk_at dksX6_read_6 13 rfl rfl)
theorem dX6_read_162 : decode cX6_read 162 = .ok (.istore_n 2, 1) := dk_61 (dk_at dksX6_read_6 14 rfl rfl)
theorem dX6_read_163 : decode cX6_read 163 = .ok (.goto 28, 3) := dk_167 0 28 (dk_at dksX6_read_6 15 rfl rfl)
theorem dX6_read_166 : decode cX6_read 166 = .ok (.aload_n 1, 1) := dk_43 (dk_at dksX6_read_6 18 rfl rfl)
theorem dX6_read_167 : decode cX6_read 167 = .ok (.ldc 130, 2) := dk_18 130 (dk_at dksX6_read_6 19 rfl rfl)
theorem dX6_read_169 : decode cX6_read 169 = .ok (.invokevirtual 118, 3) := dk_182 0 118 (dk_at dksX6_read_6 21 rfl rfl)
theorem dX6_read_172 : decode cX6_read 172 = .ok (.ifCond .eq 19, 3) := dk_153 0 19 (dk_at dksX6_read_7 0 rfl rfl)
theorem dX6_read_175 : decode cX6_read 175 = .ok (.iconst 3, 1) := dk_6 (dk_at dksX6_read_7 3 rfl rfl)
theorem dX6_read_176 : decode cX6_read 176 = .ok (.istore_n 2, 1) := dk_61 (dk_at dksX6_read_7 4 rfl rfl)
theorem dX6_read_177 : decode cX6_read 177 = .ok (.goto 14, 3) := dk_167 0 14 (dk_at dksX6_read_7 5 rfl rfl)
theorem dX6_read_180 : decode cX6_read 180 = .ok (.aload_n 1, 1) := dk_43 (dk_at dksX6_read_7 8 rfl rfl)
theorem dX6_read_181 : decode cX6_read 181 = .ok (.ldc 132, 2) := dk_18 132 (dk_at dksX6_read_7 9 rfl rfl)
theorem dX6_read_183 : decode cX6_read 183 = .ok (.invokevirtual 118, 3) := dk_182 0 118 (dk_at dksX6_read_7 11 rfl rfl)
theorem dX6_read_186 : decode cX6_read 186 = .ok (.ifCond .eq 5, 3) := dk_153 0 5 (dk_at dksX6_read_7 14 rfl rfl)
theorem dX6_read_189 : decode cX6_read 189 = .ok (.iconst 4, 1) := dk_7 (dk_at dksX6_read_7 17 rfl rfl)
theorem dX6_read_190 : decode cX6_read 190 = .ok (.istore_n 2, 1) := dk_61 (dk_at dksX6_read_7 18 rfl rfl)
theorem dX6_read_191 : decode cX6_read 191 = .ok (.iload_n 2, 1) := dk_28 (dk_at dksX6_read_7 19 rfl rfl)
theorem dX6_read_192 : decode cX6_read 192 = .ok (.tableswitch 71 0 4 #[36, 43, 50, 57, 64], 36) := by decide +kernel
theorem dX6_read_228 : decode cX6_read 228 = .ok (.aload_n 0, 1) := dk_42 (dk_at dksX6_read_9 0 rfl rfl)
theorem dX6_read_229 : decode cX6_read 229 = .ok (.invokevirtual 280, 3) := dk_182 1 24 (dk_at dksX6_read_9 1 rfl rfl)
theorem dX6_read_232 : decode cX6_read 232 = .ok (.goto 44, 3) := dk_167 0 44 (dk_at dksX6_read_9 4 rfl rfl)
theorem dX6_read_235 : decode cX6_read 235 = .ok (.aload_n 0, 1) := dk_42 (dk_at dksX6_read_9 7 rfl rfl)
theorem dX6_read_236 : decode cX6_read 236 = .ok (.invokevirtual 282, 3) := dk_182 1 26 (dk_at dksX6_read_9 8 rfl rfl)
theorem dX6_read_239 : decode cX6_read 239 = .ok (.goto 37, 3) := dk_167 0 37 (dk_at dksX6_read_9 11 rfl rfl)
theorem dX6_read_242 : decode cX6_read 242 = .ok (.aload_n 0, 1) := dk_42 (dk_at dksX6_read_9 14 rfl rfl)
theorem dX6_read_243 : decode cX6_read 243 = .ok (.invokevirtual 284, 3) := dk_182 1 28 (dk_at dksX6_read_9 15 rfl rfl)
theorem dX6_read_246 : decode cX6_read 246 = .ok (.goto 30, 3) := dk_167 0 30 (dk_at dksX6_read_9 18 rfl rfl)
theorem dX6_read_249 : decode cX6_read 249 = .ok (.aload_n 0, 1) := dk_42 (dk_at dksX6_read_9 21 rfl rfl)
theorem dX6_read_250 : decode cX6_read 250 = .ok (.invokevirtual 286, 3) := dk_182 1 30 (dk_at dksX6_read_10 0 rfl rfl)
theorem dX6_read_253 : decode cX6_read 253 = .ok (.goto 23, 3) := dk_167 0 23 (dk_at dksX6_read_10 3 rfl rfl)
theorem dX6_read_256 : decode cX6_read 256 = .ok (.aload_n 0, 1) := dk_42 (dk_at dksX6_read_10 6 rfl rfl)
theorem dX6_read_257 : decode cX6_read 257 = .ok (.invokevirtual 288, 3) := dk_182 1 32 (dk_at dksX6_read_10 7 rfl rfl)
theorem dX6_read_260 : decode cX6_read 260 = .ok (.goto 16, 3) := dk_167 0 16 (dk_at dksX6_read_10 10 rfl rfl)
theorem dX6_read_263 : decode cX6_read 263 = .ok (.new 108, 3) := dk_187 0 108 (dk_at dksX6_read_10 13 rfl rfl)
theorem dX6_read_266 : decode cX6_read 266 = .ok (.dup, 1) := dk_89 (dk_at dksX6_read_10 16 rfl rfl)
theorem dX6_read_267 : decode cX6_read 267 = .ok (.aload_n 0, 1) := dk_42 (dk_at dksX6_read_10 17 rfl rfl)
theorem dX6_read_268 : decode cX6_read 268 = .ok (.getfield 60, 3) := dk_180 0 60 (dk_at dksX6_read_10 18 rfl rfl)
theorem dX6_read_271 : decode cX6_read 271 = .ok (.iconst 1, 1) := dk_4 (dk_at dksX6_read_10 21 rfl rfl)
theorem dX6_read_272 : decode cX6_read 272 = .ok (.invokespecial 110, 3) := dk_183 0 110 (dk_at dksX6_read_11 0 rfl rfl)
theorem dX6_read_275 : decode cX6_read 275 = .ok (.athrow, 1) := dk_191 (dk_at dksX6_read_11 3 rfl rfl)
theorem dX6_read_276 : decode cX6_read 276 = .ok (.aload_n 0, 1) := dk_42 (dk_at dksX6_read_11 4 rfl rfl)
theorem dX6_read_277 : decode cX6_read 277 = .ok (.invokevirtual 277, 3) := dk_182 1 21 (dk_at dksX6_read_11 5 rfl rfl)
theorem dX6_read_280 : decode cX6_read 280 = .ok (.goto (-223), 3) := dk_167 255 33 (dk_at dksX6_read_11 8 rfl rfl)
theorem dX6_read_283 : decode cX6_read 283 = .ok (.return_, 1) := dk_177 (dk_at dksX6_read_11 11 rfl rfl)
def dkwX6_go_12 : List UInt8 := [180, 0, 49, 4, 96, 181, 0, 49, 177]
abbrev dktX6_go_12 : List UInt8 := dkwX6_go_12 ++ []
def dkwX6_go_11 : List UInt8 := [154, 0, 31, 42, 42, 182, 0, 56, 16, 59, 160, 0, 7, 4, 167, 0, 4, 3, 181, 0, 63, 42, 89]
abbrev dktX6_go_11 : List UInt8 := dkwX6_go_11 ++ dktX6_go_12
def dkwX6_go_10 : List UInt8 := [167, 255, 216, 42, 42, 42, 180, 0, 32, 182, 0, 97, 181, 0, 42, 167, 0, 38, 42, 180, 0, 67]
abbrev dktX6_go_10 : List UInt8 := dkwX6_go_10 ++ dktX6_go_11
def dkwX6_go_9 : List UInt8 := [180, 0, 32, 42, 182, 0, 56, 146, 182, 0, 82, 87, 42, 89, 180, 0, 49, 4, 96, 181, 0, 49]
abbrev dktX6_go_9 : List UInt8 := dkwX6_go_9 ++ dktX6_go_10
def dkwX6_go_8 : List UInt8 := [184, 0, 78, 153, 0, 61, 42, 182, 0, 56, 133, 20, 0, 93, 20, 0, 95, 184, 0, 78, 153, 0, 29, 42]
abbrev dktX6_go_8 : List UInt8 := dkwX6_go_8 ++ dktX6_go_9
def dkwX6_go_7 : List UInt8 := [180, 0, 32, 182, 0, 89, 181, 0, 38, 167, 0, 113, 42, 182, 0, 56, 133, 20, 0, 93, 20, 0, 95]
abbrev dktX6_go_7 : List UInt8 := dkwX6_go_7 ++ dktX6_go_8
def dkwX6_go_6 : List UInt8 := [167, 255, 216, 42, 42, 180, 0, 32, 182, 0, 86, 16, 6, 164, 0, 8, 18, 36, 167, 0, 10, 42]
abbrev dktX6_go_6 : List UInt8 := dkwX6_go_6 ++ dktX6_go_7
def dkwX6_go_5 : List UInt8 := [180, 0, 32, 42, 182, 0, 56, 146, 182, 0, 82, 87, 42, 89, 180, 0, 49, 4, 96, 181, 0, 49]
abbrev dktX6_go_5 : List UInt8 := dkwX6_go_5 ++ dktX6_go_6
def dkwX6_go_4 : List UInt8 := [184, 0, 78, 153, 0, 77, 42, 182, 0, 56, 133, 20, 0, 74, 20, 0, 76, 184, 0, 78, 153, 0, 29, 42]
abbrev dktX6_go_4 : List UInt8 := dkwX6_go_4 ++ dktX6_go_5
def dkwX6_go_3 : List UInt8 := [3, 181, 0, 67, 42, 180, 0, 32, 3, 182, 0, 70, 42, 182, 0, 56, 133, 20, 0, 74, 20, 0, 76]
abbrev dktX6_go_3 : List UInt8 := dkwX6_go_3 ++ dktX6_go_4
def dkwX6_go_2 : List UInt8 := [181, 0, 42, 42, 3, 181, 0, 63, 42, 42, 180, 0, 49, 42, 180, 0, 46, 161, 0, 7, 4, 167, 0, 4]
abbrev dktX6_go_2 : List UInt8 := dkwX6_go_2 ++ dktX6_go_3
def dkwX6_go_1 : List UInt8 := [96, 181, 0, 49, 167, 255, 228, 42, 42, 180, 0, 49, 181, 0, 60, 42, 18, 36, 181, 0, 38, 42, 2]
abbrev dktX6_go_1 : List UInt8 := dkwX6_go_1 ++ dktX6_go_2
def dkwX6_go_0 : List UInt8 := [42, 182, 0, 56, 16, 32, 159, 0, 12, 42, 182, 0, 56, 16, 10, 160, 0, 16, 42, 89, 180, 0, 49, 4]
abbrev dktX6_go_0 : List UInt8 := dkwX6_go_0 ++ dktX6_go_1
theorem dksX6_go_0 : cX6_go.data.toList.drop 0 = dktX6_go_0 := by decide +kernel
theorem dksX6_go_1 : cX6_go.data.toList.drop 24 = dktX6_go_1 := dk_seg dksX6_go_0 24 rfl rfl
theorem dksX6_go_2 : cX6_go.data.toList.drop 47 = dktX6_go_2 := dk_seg dksX6_go_1 23 rfl rfl
theorem dksX6_go_3 : cX6_go.data.toList.drop 71 = dktX6_go_3 := dk_seg dksX6_go_2 24 rfl rfl
theorem dksX6_go_4 : cX6_go.data.toList.drop 94 = dktX6_go_4 := dk_seg dksX6_go_3 23 rfl rfl
theorem dksX6_go_5 : cX6_go.data.toList.drop 118 = dktX6_go_5 := dk_seg dksX6_go_4 24 rfl rfl
theorem dksX6_go_6 : cX6_go.data.toList.drop 140 = dktX6_go_6 := dk_seg dksX6_go_5 22 rfl rfl
theorem dksX6_go_7 : cX6_go.data.toList.drop 162 = dktX6_go_7 := dk_seg dksX6_go_6 22 rfl rfl
theorem dksX6_go_8 : cX6_go.data.toList.drop 185 = dktX6_go_8 := dk_seg dksX6_go_7 23 rfl rfl
theorem dksX6_go_9 : cX6_go.data.toList.drop 209 = dktX6_go_9 := dk_seg dksX6_go_8 24 rfl rfl
theorem dksX6_go_10 : cX6_go.data.toList.drop 231 = dktX6_go_10 := dk_seg dksX6_go_9 22 rfl rfl
theorem dksX6_go_11 : cX6_go.data.toList.drop 253 = dktX6_go_11 := dk_seg dksX6_go_10 22 rfl rfl
theorem dksX6_go_12 : cX6_go.data.toList.drop 276 = dktX6_go_12 := dk_seg dksX6_go_11 23 rfl rfl
theorem dX6_go_0 : decode cX6_go 0 = .ok (.aload_n 0, 1) := dk_42 (dk_at dksX6_go_0 0 rfl rfl)
theorem dX6_go_1 : decode cX6_go 1 = .ok (.invokevirtual 56, 3) := dk_182 0 56 (dk_at dksX6_go_0 1 rfl rfl)
theorem dX6_go_4 : decode cX6_go 4 = .ok (.bipush 32, 2) := dk_16 32 (dk_at dksX6_go_0 4 rfl rfl)
theorem dX6_go_6 : decode cX6_go 6 = .ok (.if_icmp .eq 12, 3) := dk_159 0 12 (dk_at dksX6_go_0 6 rfl rfl)
theorem dX6_go_9 : decode cX6_go 9 = .ok (.aload_n 0, 1) := dk_42 (dk_at dksX6_go_0 9 rfl rfl)
theorem dX6_go_10 : decode cX6_go 10 = .ok (.invokevirtual 56, 3) := dk_182 0 56 (dk_at dksX6_go_0 10 rfl rfl)
theorem dX6_go_13 : decode cX6_go 13 = .ok (.bipush 10, 2) := dk_16 10 (dk_at dksX6_go_0 13 rfl rfl)
theorem dX6_go_15 : decode cX6_go 15 = .ok (.if_icmp .ne 16, 3) := dk_160 0 16 (dk_at dksX6_go_0 15 rfl rfl)
theorem dX6_go_18 : decode cX6_go 18 = .ok (.aload_n 0, 1) := dk_42 (dk_at dksX6_go_0 18 rfl rfl)
theorem dX6_go_19 : decode cX6_go 19 = .ok (.dup, 1) := dk_89 (dk_at dksX6_go_0 19 rfl rfl)
theorem dX6_go_20 : decode cX6_go 20 = .ok (.getfield 49, 3) := dk_180 0 49 (dk_at dksX6_go_0 20 rfl rfl)
theorem dX6_go_23 : decode cX6_go 23 = .ok (.iconst 1, 1) := dk_4 (dk_at dksX6_go_0 23 rfl rfl)
theorem dX6_go_24 : decode cX6_go 24 = .ok (.iadd, 1) := dk_96 (dk_at dksX6_go_1 0 rfl rfl)
theorem dX6_go_25 : decode cX6_go 25 = .ok (.putfield 49, 3) := dk_181 0 49 (dk_at dksX6_go_1 1 rfl rfl)
theorem dX6_go_28 : decode cX6_go 28 = .ok (.goto (-28), 3) := dk_167 255 228 (dk_at dksX6_go_1 4 rfl rfl)
theorem dX6_go_31 : decode cX6_go 31 = .ok (.aload_n 0, 1) := dk_42 (dk_at dksX6_go_1 7 rfl rfl)
theorem dX6_go_32 : decode cX6_go 32 = .ok (.aload_n 0, 1) := dk_42 (dk_at dksX6_go_1 8 rfl rfl)
theorem dX6_go_33 : decode cX6_go 33 = .ok (.getfield 49, 3) := dk_180 0 49 (dk_at dksX6_go_1 9 rfl rfl)
theorem dX6_go_36 : decode cX6_go 36 = .ok (.putfield 60, 3) := dk_181 0 60 (dk_at dksX6_go_1 12 rfl rfl)
theorem dX6_go_39 : decode cX6_go 39 = .ok (.aload_n 0, 1) := dk_42 (dk_at dksX6_go_1 15 rfl rfl)
theorem dX6_go_40 : decode cX6_go 40 = .ok (.ldc 36, 2) := dk_18 36 (dk_at dksX6_go_1 16 rfl rfl)
theorem dX6_go_42 : decode cX6_go 42 = .ok (.putfield 38, 3) := dk_181 0 38 (dk_at dksX6_go_1 18 rfl rfl)
theorem dX6_go_45 : decode cX6_go 45 = .ok (.aload_n 0, 1) := dk_42 (dk_at dksX6_go_1 21 rfl rfl)
theorem dX6_go_46 : decode cX6_go 46 = .ok (.iconst (-1), 1) := dk_2 (dk_at dksX6_go_1 22 rfl rfl)
theorem dX6_go_47 : decode cX6_go 47 = .ok (.putfield 42, 3) := dk_181 0 42 (dk_at dksX6_go_2 0 rfl rfl)
theorem dX6_go_50 : decode cX6_go 50 = .ok (.aload_n 0, 1) := dk_42 (dk_at dksX6_go_2 3 rfl rfl)
theorem dX6_go_51 : decode cX6_go 51 = .ok (.iconst 0, 1) := dk_3 (dk_at dksX6_go_2 4 rfl rfl)
theorem dX6_go_52 : decode cX6_go 52 = .ok (.putfield 63, 3) := dk_181 0 63 (dk_at dksX6_go_2 5 rfl rfl)
theorem dX6_go_55 : decode cX6_go 55 = .ok (.aload_n 0, 1) := dk_42 (dk_at dksX6_go_2 8 rfl rfl)
theorem dX6_go_56 : decode cX6_go 56 = .ok (.aload_n 0, 1) := dk_42 (dk_at dksX6_go_2 9 rfl rfl)
theorem dX6_go_57 : decode cX6_go 57 = .ok (.getfield 49, 3) := dk_180 0 49 (dk_at dksX6_go_2 10 rfl rfl)
theorem dX6_go_60 : decode cX6_go 60 = .ok (.aload_n 0, 1) := dk_42 (dk_at dksX6_go_2 13 rfl rfl)
theorem dX6_go_61 : decode cX6_go 61 = .ok (.getfield 46, 3) := dk_180 0 46 (dk_at dksX6_go_2 14 rfl rfl)
theorem dX6_go_64 : decode cX6_go 64 = .ok (.if_icmp .lt 7, 3) := dk_161 0 7 (dk_at dksX6_go_2 17 rfl rfl)
theorem dX6_go_67 : decode cX6_go 67 = .ok (.iconst 1, 1) := dk_4 (dk_at dksX6_go_2 20 rfl rfl)
theorem dX6_go_68 : decode cX6_go 68 = .ok (.goto 4, 3) := dk_167 0 4 (dk_at dksX6_go_2 21 rfl rfl)
theorem dX6_go_71 : decode cX6_go 71 = .ok (.iconst 0, 1) := dk_3 (dk_at dksX6_go_3 0 rfl rfl)
theorem dX6_go_72 : decode cX6_go 72 = .ok (.putfield 67, 3) := dk_181 0 67 (dk_at dksX6_go_3 1 rfl rfl)
theorem dX6_go_75 : decode cX6_go 75 = .ok (.aload_n 0, 1) := dk_42 (dk_at dksX6_go_3 4 rfl rfl)
theorem dX6_go_76 : decode cX6_go 76 = .ok (.getfield 32, 3) := dk_180 0 32 (dk_at dksX6_go_3 5 rfl rfl)
theorem dX6_go_79 : decode cX6_go 79 = .ok (.iconst 0, 1) := dk_3 (dk_at dksX6_go_3 8 rfl rfl)
theorem dX6_go_80 : decode cX6_go 80 = .ok (.invokevirtual 70, 3) := dk_182 0 70 (dk_at dksX6_go_3 9 rfl rfl)
theorem dX6_go_83 : decode cX6_go 83 = .ok (.aload_n 0, 1) := dk_42 (dk_at dksX6_go_3 12 rfl rfl)
theorem dX6_go_84 : decode cX6_go 84 = .ok (.invokevirtual 56, 3) := dk_182 0 56 (dk_at dksX6_go_3 13 rfl rfl)
theorem dX6_go_87 : decode cX6_go 87 = .ok (.i2l, 1) := dk_133 (dk_at dksX6_go_3 16 rfl rfl)
theorem dX6_go_88 : decode cX6_go 88 = .ok (.ldc2_w 74, 3) := dk_20 0 74 (dk_at dksX6_go_3 17 rfl rfl)
theorem dX6_go_91 : decode cX6_go 91 = .ok (.ldc2_w 76, 3) := dk_20 0 76 (dk_at dksX6_go_3 20 rfl rfl)
theorem dX6_go_94 : decode cX6_go 94 = .ok (.invokestatic 78, 3) := dk_184 0 78 (dk_at dksX6_go_4 0 rfl rfl)
theorem dX6_go_97 : decode cX6_go 97 = .ok (.ifCond .eq 77, 3) := dk_153 0 77 (dk_at dksX6_go_4 3 rfl rfl)
theorem dX6_go_100 : decode cX6_go 100 = .ok (.aload_n 0, 1) := dk_42 (dk_at dksX6_go_4 6 rfl rfl)
theorem dX6_go_101 : decode cX6_go 101 = .ok (.invokevirtual 56, 3) := dk_182 0 56 (dk_at dksX6_go_4 7 rfl rfl)
theorem dX6_go_104 : decode cX6_go 104 = .ok (.i2l, 1) := dk_133 (dk_at dksX6_go_4 10 rfl rfl)
theorem dX6_go_105 : decode cX6_go 105 = .ok (.ldc2_w 74, 3) := dk_20 0 74 (dk_at dksX6_go_4 11 rfl rfl)
theorem dX6_go_108 : decode cX6_go 108 = .ok (.ldc2_w 76, 3) := dk_20 0 76 (dk_at dksX6_go_4 14 rfl rfl)
theorem dX6_go_111 : decode cX6_go 111 = .ok (.invokestatic 78, 3) := dk_184 0 78 (dk_at dksX6_go_4 17 rfl rfl)
theorem dX6_go_114 : decode cX6_go 114 = .ok (.ifCond .eq 29, 3) := dk_153 0 29 (dk_at dksX6_go_4 20 rfl rfl)
theorem dX6_go_117 : decode cX6_go 117 = .ok (.aload_n 0, 1) := dk_42 (dk_at dksX6_go_4 23 rfl rfl)
theorem dX6_go_118 : decode cX6_go 118 = .ok (.getfield 32, 3) := dk_180 0 32 (dk_at dksX6_go_5 0 rfl rfl)
theorem dX6_go_121 : decode cX6_go 121 = .ok (.aload_n 0, 1) := dk_42 (dk_at dksX6_go_5 3 rfl rfl)
theorem dX6_go_122 : decode cX6_go 122 = .ok (.invokevirtual 56, 3) := dk_182 0 56 (dk_at dksX6_go_5 4 rfl rfl)
theorem dX6_go_125 : decode cX6_go 125 = .ok (.i2c, 1) := dk_146 (dk_at dksX6_go_5 7 rfl rfl)
theorem dX6_go_126 : decode cX6_go 126 = .ok (.invokevirtual 82, 3) := dk_182 0 82 (dk_at dksX6_go_5 8 rfl rfl)
theorem dX6_go_129 : decode cX6_go 129 = .ok (.pop, 1) := dk_87 (dk_at dksX6_go_5 11 rfl rfl)
theorem dX6_go_130 : decode cX6_go 130 = .ok (.aload_n 0, 1) := dk_42 (dk_at dksX6_go_5 12 rfl rfl)
theorem dX6_go_131 : decode cX6_go 131 = .ok (.dup, 1) := dk_89 (dk_at dksX6_go_5 13 rfl rfl)
theorem dX6_go_132 : decode cX6_go 132 = .ok (.getfield 49, 3) := dk_180 0 49 (dk_at dksX6_go_5 14 rfl rfl)
theorem dX6_go_135 : decode cX6_go 135 = .ok (.iconst 1, 1) := dk_4 (dk_at dksX6_go_5 17 rfl rfl)
theorem dX6_go_136 : decode cX6_go 136 = .ok (.iadd, 1) := dk_96 (dk_at dksX6_go_5 18 rfl rfl)
theorem dX6_go_137 : decode cX6_go 137 = .ok (.putfield 49, 3) := dk_181 0 49 (dk_at dksX6_go_5 19 rfl rfl)
theorem dX6_go_140 : decode cX6_go 140 = .ok (.goto (-40), 3) := dk_167 255 216 (dk_at dksX6_go_6 0 rfl rfl)
theorem dX6_go_143 : decode cX6_go 143 = .ok (.aload_n 0, 1) := dk_42 (dk_at dksX6_go_6 3 rfl rfl)
theorem dX6_go_144 : decode cX6_go 144 = .ok (.aload_n 0, 1) := dk_42 (dk_at dksX6_go_6 4 rfl rfl)
theorem dX6_go_145 : decode cX6_go 145 = .ok (.getfield 32, 3) := dk_180 0 32 (dk_at dksX6_go_6 5 rfl rfl)
theorem dX6_go_148 : decode cX6_go 148 = .ok (.invokevirtual 86, 3) := dk_182 0 86 (dk_at dksX6_go_6 8 rfl rfl)
theorem dX6_go_151 : decode cX6_go 151 = .ok (.bipush 6, 2) := dk_16 6 (dk_at dksX6_go_6 11 rfl rfl)
theorem dX6_go_153 : decode cX6_go 153 = .ok (.if_icmp .le 8, 3) := dk_164 0 8 (dk_at dksX6_go_6 13 rfl rfl)
theorem dX6_go_156 : decode cX6_go 156 = .ok (.ldc 36, 2) := dk_18 36 (dk_at dksX6_go_6 16 rfl rfl)
theorem dX6_go_158 : decode cX6_go 158 = .ok (.goto 10, 3) := dk_167 0 10 (dk_at dksX6_go_6 18 rfl rfl)
theorem dX6_go_161 : decode cX6_go 161 = .ok (.aload_n 0, 1) := dk_42 (dk_at dksX6_go_6 21 rfl rfl)
theorem dX6_go_162 : decode cX6_go 162 = .ok (.getfield 32, 3) := dk_180 0 32 (dk_at dksX6_go_7 0 rfl rfl)
theorem dX6_go_165 : decode cX6_go 165 = .ok (.invokevirtual 89, 3) := dk_182 0 89 (dk_at dksX6_go_7 3 rfl rfl)
theorem dX6_go_168 : decode cX6_go 168 = .ok (.putfield 38, 3) := dk_181 0 38 (dk_at dksX6_go_7 6 rfl rfl)
theorem dX6_go_171 : decode cX6_go 171 = .ok (.goto 113, 3) := dk_167 0 113 (dk_at dksX6_go_7 9 rfl rfl)
theorem dX6_go_174 : decode cX6_go 174 = .ok (.aload_n 0, 1) := dk_42 (dk_at dksX6_go_7 12 rfl rfl)
theorem dX6_go_175 : decode cX6_go 175 = .ok (.invokevirtual 56, 3) := dk_182 0 56 (dk_at dksX6_go_7 13 rfl rfl)
theorem dX6_go_178 : decode cX6_go 178 = .ok (.i2l, 1) := dk_133 (dk_at dksX6_go_7 16 rfl rfl)
theorem dX6_go_179 : decode cX6_go 179 = .ok (.ldc2_w 93, 3) := dk_20 0 93 (dk_at dksX6_go_7 17 rfl rfl)
theorem dX6_go_182 : decode cX6_go 182 = .ok (.ldc2_w 95, 3) := dk_20 0 95 (dk_at dksX6_go_7 20 rfl rfl)
theorem dX6_go_185 : decode cX6_go 185 = .ok (.invokestatic 78, 3) := dk_184 0 78 (dk_at dksX6_go_8 0 rfl rfl)
theorem dX6_go_188 : decode cX6_go 188 = .ok (.ifCond .eq 61, 3) := dk_153 0 61 (dk_at dksX6_go_8 3 rfl rfl)
theorem dX6_go_191 : decode cX6_go 191 = .ok (.aload_n 0, 1) := dk_42 (dk_at dksX6_go_8 6 rfl rfl)
theorem dX6_go_192 : decode cX6_go 192 = .ok (.invokevirtual 56, 3) := dk_182 0 56 (dk_at dksX6_go_8 7 rfl rfl)
theorem dX6_go_195 : decode cX6_go 195 = .ok (.i2l, 1) := dk_133 (dk_at dksX6_go_8 10 rfl rfl)
theorem dX6_go_196 : decode cX6_go 196 = .ok (.ldc2_w 93, 3) := dk_20 0 93 (dk_at dksX6_go_8 11 rfl rfl)
theorem dX6_go_199 : decode cX6_go 199 = .ok (.ldc2_w 95, 3) := dk_20 0 95 (dk_at dksX6_go_8 14 rfl rfl)
theorem dX6_go_202 : decode cX6_go 202 = .ok (.invokestatic 78, 3) := dk_184 0 78 (dk_at dksX6_go_8 17 rfl rfl)
theorem dX6_go_205 : decode cX6_go 205 = .ok (.ifCond .eq 29, 3) := dk_153 0 29 (dk_at dksX6_go_8 20 rfl rfl)
theorem dX6_go_208 : decode cX6_go 208 = .ok (.aload_n 0, 1) := dk_42 (dk_at dksX6_go_8 23 rfl rfl)
theorem dX6_go_209 : decode cX6_go 209 = .ok (.getfield 32, 3) := dk_180 0 32 (dk_at dksX6_go_9 0 rfl rfl)
theorem dX6_go_212 : decode cX6_go 212 = .ok (.aload_n 0, 1) := dk_42 (dk_at dksX6_go_9 3 rfl rfl)
theorem dX6_go_213 : decode cX6_go 213 = .ok (.invokevirtual 56, 3) := dk_182 0 56 (dk_at dksX6_go_9 4 rfl rfl)
theorem dX6_go_216 : decode cX6_go 216 = .ok (.i2c, 1) := dk_146 (dk_at dksX6_go_9 7 rfl rfl)
theorem dX6_go_217 : decode cX6_go 217 = .ok (.invokevirtual 82, 3) := dk_182 0 82 (dk_at dksX6_go_9 8 rfl rfl)
theorem dX6_go_220 : decode cX6_go 220 = .ok (.pop, 1) := dk_87 (dk_at dksX6_go_9 11 rfl rfl)
theorem dX6_go_221 : decode cX6_go 221 = .ok (.aload_n 0, 1) := dk_42 (dk_at dksX6_go_9 12 rfl rfl)
theorem dX6_go_222 : decode cX6_go 222 = .ok (.dup, 1) := dk_89 (dk_at dksX6_go_9 13 rfl rfl)
theorem dX6_go_223 : decode cX6_go 223 = .ok (.getfield 49, 3) := dk_180 0 49 (dk_at dksX6_go_9 14 rfl rfl)
theorem dX6_go_226 : decode cX6_go 226 = .ok (.iconst 1, 1) := dk_4 (dk_at dksX6_go_9 17 rfl rfl)
theorem dX6_go_227 : decode cX6_go 227 = .ok (.iadd, 1) := dk_96 (dk_at dksX6_go_9 18 rfl rfl)
theorem dX6_go_228 : decode cX6_go 228 = .ok (.putfield 49, 3) := dk_181 0 49 (dk_at dksX6_go_9 19 rfl rfl)
theorem dX6_go_231 : decode cX6_go 231 = .ok (.goto (-40), 3) := dk_167 255 216 (dk_at dksX6_go_10 0 rfl rfl)
theorem dX6_go_234 : decode cX6_go 234 = .ok (.aload_n 0, 1) := dk_42 (dk_at dksX6_go_10 3 rfl rfl)
theorem dX6_go_235 : decode cX6_go 235 = .ok (.aload_n 0, 1) := dk_42 (dk_at dksX6_go_10 4 rfl rfl)
theorem dX6_go_236 : decode cX6_go 236 = .ok (.aload_n 0, 1) := dk_42 (dk_at dksX6_go_10 5 rfl rfl)
theorem dX6_go_237 : decode cX6_go 237 = .ok (.getfield 32, 3) := dk_180 0 32 (dk_at dksX6_go_10 6 rfl rfl)
theorem dX6_go_240 : decode cX6_go 240 = .ok (.invokevirtual 97, 3) := dk_182 0 97 (dk_at dksX6_go_10 9 rfl rfl)
theorem dX6_go_243 : decode cX6_go 243 = .ok (.putfield 42, 3) := dk_181 0 42 (dk_at dksX6_go_10 12 rfl rfl)
theorem dX6_go_246 : decode cX6_go 246 = .ok (.goto 38, 3) := dk_167 0 38 (dk_at dksX6_go_10 15 rfl rfl)
theorem dX6_go_249 : decode cX6_go 249 = .ok (.aload_n 0, 1) := dk_42 (dk_at dksX6_go_10 18 rfl rfl)
theorem dX6_go_250 : decode cX6_go 250 = .ok (.getfield 67, 3) := dk_180 0 67 (dk_at dksX6_go_10 19 rfl rfl)
theorem dX6_go_253 : decode cX6_go 253 = .ok (.ifCond .ne 31, 3) := dk_154 0 31 (dk_at dksX6_go_11 0 rfl rfl)
theorem dX6_go_256 : decode cX6_go 256 = .ok (.aload_n 0, 1) := dk_42 (dk_at dksX6_go_11 3 rfl rfl)
theorem dX6_go_257 : decode cX6_go 257 = .ok (.aload_n 0, 1) := dk_42 (dk_at dksX6_go_11 4 rfl rfl)
theorem dX6_go_258 : decode cX6_go 258 = .ok (.invokevirtual 56, 3) := dk_182 0 56 (dk_at dksX6_go_11 5 rfl rfl)
theorem dX6_go_261 : decode cX6_go 261 = .ok (.bipush 59, 2) := dk_16 59 (dk_at dksX6_go_11 8 rfl rfl)
theorem dX6_go_263 : decode cX6_go 263 = .ok (.if_icmp .ne 7, 3) := dk_160 0 7 (dk_at dksX6_go_11 10 rfl rfl)
theorem dX6_go_266 : decode cX6_go 266 = .ok (.iconst 1, 1) := dk_4 (dk_at dksX6_go_11 13 rfl rfl)
theorem dX6_go_267 : decode cX6_go 267 = .ok (.goto 4, 3) := dk_167 0 4 (dk_at dksX6_go_11 14 rfl rfl)
theorem dX6_go_270 : decode cX6_go 270 = .ok (.iconst 0, 1) := dk_3 (dk_at dksX6_go_11 17 rfl rfl)
theorem dX6_go_271 : decode cX6_go 271 = .ok (.putfield 63, 3) := dk_181 0 63 (dk_at dksX6_go_11 18 rfl rfl)
theorem dX6_go_274 : decode cX6_go 274 = .ok (.aload_n 0, 1) := dk_42 (dk_at dksX6_go_11 21 rfl rfl)
theorem dX6_go_275 : decode cX6_go 275 = .ok (.dup, 1) := dk_89 (dk_at dksX6_go_11 22 rfl rfl)
theorem dX6_go_276 : decode cX6_go 276 = .ok (.getfield 49, 3) := dk_180 0 49 (dk_at dksX6_go_12 0 rfl rfl)
theorem dX6_go_279 : decode cX6_go 279 = .ok (.iconst 1, 1) := dk_4 (dk_at dksX6_go_12 3 rfl rfl)
theorem dX6_go_280 : decode cX6_go 280 = .ok (.iadd, 1) := dk_96 (dk_at dksX6_go_12 4 rfl rfl)
theorem dX6_go_281 : decode cX6_go 281 = .ok (.putfield 49, 3) := dk_181 0 49 (dk_at dksX6_go_12 5 rfl rfl)
theorem dX6_go_284 : decode cX6_go 284 = .ok (.return_, 1) := dk_177 (dk_at dksX6_go_12 8 rfl rfl)
def dkwX6_at_1 : List UInt8 := [17, 0, 255, 126, 167, 0, 4, 2, 172]
abbrev dktX6_at_1 : List UInt8 := dkwX6_at_1 ++ []
def dkwX6_at_0 : List UInt8 := [42, 180, 0, 49, 42, 180, 0, 46, 162, 0, 22, 42, 180, 0, 3, 180, 0, 52, 42, 180, 0, 49, 51]
abbrev dktX6_at_0 : List UInt8 := dkwX6_at_0 ++ dktX6_at_1
theorem dksX6_at_0 : cX6_at.data.toList.drop 0 = dktX6_at_0 := by decide +kernel
theorem dksX6_at_1 : cX6_at.data.toList.drop 23 = dktX6_at_1 := dk_seg dksX6_at_0 23 rfl rfl
theorem dX6_at_0 : decode cX6_at 0 = .ok (.aload_n 0, 1) := dk_42 (dk_at dksX6_at_0 0 rfl rfl)
theorem dX6_at_1 : decode cX6_at 1 = .ok (.getfield 49, 3) := dk_180 0 49 (dk_at dksX6_at_0 1 rfl rfl)
theorem dX6_at_4 : decode cX6_at 4 = .ok (.aload_n 0, 1) := dk_42 (dk_at dksX6_at_0 4 rfl rfl)
theorem dX6_at_5 : decode cX6_at 5 = .ok (.getfield 46, 3) := dk_180 0 46 (dk_at dksX6_at_0 5 rfl rfl)
theorem dX6_at_8 : decode cX6_at 8 = .ok (.if_icmp .ge 22, 3) := dk_162 0 22 (dk_at dksX6_at_0 8 rfl rfl)
theorem dX6_at_11 : decode cX6_at 11 = .ok (.aload_n 0, 1) := dk_42 (dk_at dksX6_at_0 11 rfl rfl)
theorem dX6_at_12 : decode cX6_at 12 = .ok (.getfield 3, 3) := dk_180 0 3 (dk_at dksX6_at_0 12 rfl rfl)
theorem dX6_at_15 : decode cX6_at 15 = .ok (.getfield 52, 3) := dk_180 0 52 (dk_at dksX6_at_0 15 rfl rfl)
theorem dX6_at_18 : decode cX6_at 18 = .ok (.aload_n 0, 1) := dk_42 (dk_at dksX6_at_0 18 rfl rfl)
theorem dX6_at_19 : decode cX6_at 19 = .ok (.getfield 49, 3) := dk_180 0 49 (dk_at dksX6_at_0 19 rfl rfl)
theorem dX6_at_22 : decode cX6_at 22 = .ok (.baload, 1) := dk_51 (dk_at dksX6_at_0 22 rfl rfl)
theorem dX6_at_23 : decode cX6_at 23 = .ok (.sipush 255, 3) := dk_17 0 255 (dk_at dksX6_at_1 0 rfl rfl)
theorem dX6_at_26 : decode cX6_at 26 = .ok (.iand, 1) := dk_126 (dk_at dksX6_at_1 3 rfl rfl)
theorem dX6_at_27 : decode cX6_at 27 = .ok (.goto 4, 3) := dk_167 0 4 (dk_at dksX6_at_1 4 rfl rfl)
theorem dX6_at_30 : decode cX6_at 30 = .ok (.iconst (-1), 1) := dk_2 (dk_at dksX6_at_1 7 rfl rfl)
theorem dX6_at_31 : decode cX6_at 31 = .ok (.ireturn, 1) := dk_172 (dk_at dksX6_at_1 8 rfl rfl)
def dkwX6_told_2 : List UInt8 := [167, 255, 227, 28, 172]
abbrev dktX6_told_2 : List UInt8 := dkwX6_told_2 ++ []
def dkwX6_told_1 : List UInt8 := [162, 0, 25, 16, 10, 28, 104, 43, 29, 185, 0, 104, 2, 0, 96, 16, 48, 100, 61, 132, 3, 1]
abbrev dktX6_told_1 : List UInt8 := dkwX6_told_1 ++ dktX6_told_2
def dkwX6_told_0 : List UInt8 := [43, 185, 0, 101, 1, 0, 5, 164, 0, 5, 2, 172, 3, 61, 3, 62, 29, 43, 185, 0, 101, 1, 0]
abbrev dktX6_told_0 : List UInt8 := dkwX6_told_0 ++ dktX6_told_1
theorem dksX6_told_0 : cX6_told.data.toList.drop 0 = dktX6_told_0 := by decide +kernel
theorem dksX6_told_1 : cX6_told.data.toList.drop 23 = dktX6_told_1 := dk_seg dksX6_told_0 23 rfl rfl
theorem dksX6_told_2 : cX6_told.data.toList.drop 45 = dktX6_told_2 := dk_seg dksX6_told_1 22 rfl rfl
theorem dX6_told_0 : decode cX6_told 0 = .ok (.aload_n 1, 1) := dk_43 (dk_at dksX6_told_0 0 rfl rfl)
theorem dX6_told_1 : decode cX6_told 1 = .ok (.invokeinterface 101 1, 5) := by decide +kernel
theorem dX6_told_6 : decode cX6_told 6 = .ok (.iconst 2, 1) := dk_5 (dk_at dksX6_told_0 6 rfl rfl)
theorem dX6_told_7 : decode cX6_told 7 = .ok (.if_icmp .le 5, 3) := dk_164 0 5 (dk_at dksX6_told_0 7 rfl rfl)
theorem dX6_told_10 : decode cX6_told 10 = .ok (.iconst (-1), 1) := dk_2 (dk_at dksX6_told_0 10 rfl rfl)
theorem dX6_told_11 : decode cX6_told 11 = .ok (.ireturn, 1) := dk_172 (dk_at dksX6_told_0 11 rfl rfl)
theorem dX6_told_12 : decode cX6_told 12 = .ok (.iconst 0, 1) := dk_3 (dk_at dksX6_told_0 12 rfl rfl)
theorem dX6_told_13 : decode cX6_told 13 = .ok (.istore_n 2, 1) := dk_61 (dk_at dksX6_told_0 13 rfl rfl)
theorem dX6_told_14 : decode cX6_told 14 = .ok (.iconst 0, 1) := dk_3 (dk_at dksX6_told_0 14 rfl rfl)
theorem dX6_told_15 : decode cX6_told 15 = .ok (.istore_n 3, 1) := dk_62 (dk_at dksX6_told_0 15 rfl rfl)
theorem dX6_told_16 : decode cX6_told 16 = .ok (.iload_n 3, 1) := dk_29 (dk_at dksX6_told_0 16 rfl rfl)
theorem dX6_told_17 : decode cX6_told 17 = .ok (.aload_n 1, 1) := dk_43 (dk_at dksX6_told_0 17 rfl rfl)
theorem dX6_told_18 : decode cX6_told 18 = .ok (.invokeinterface 101 1, 5) := by decide +kernel
theorem dX6_told_23 : decode cX6_told 23 = .ok (.if_icmp .ge 25, 3) := dk_162 0 25 (dk_at dksX6_told_1 0 rfl rfl)
theorem dX6_told_26 : decode cX6_told 26 = .ok (.bipush 10, 2) := dk_16 10 (dk_at dksX6_told_1 3 rfl rfl)
theorem dX6_told_28 : decode cX6_told 28 = .ok (.iload_n 2, 1) := dk_28 (dk_at dksX6_told_1 5 rfl rfl)
theorem dX6_told_29 : decode cX6_told 29 = .ok (.imul, 1) := dk_104 (dk_at dksX6_told_1 6 rfl rfl)
theorem dX6_told_30 : decode cX6_told 30 = .ok (.aload_n 1, 1) := dk_43 (dk_at dksX6_told_1 7 rfl rfl)
theorem dX6_told_31 : decode cX6_told 31 = .ok (.iload_n 3, 1) := dk_29 (dk_at dksX6_told_1 8 rfl rfl)
theorem dX6_told_32 : decode cX6_told 32 = .ok (.invokeinterface 104 2, 5) := by decide +kernel
theorem dX6_told_37 : decode cX6_told 37 = .ok (.iadd, 1) := dk_96 (dk_at dksX6_told_1 14 rfl rfl)
theorem dX6_told_38 : decode cX6_told 38 = .ok (.bipush 48, 2) := dk_16 48 (dk_at dksX6_told_1 15 rfl rfl)
theorem dX6_told_40 : decode cX6_told 40 = .ok (.isub, 1) := dk_100 (dk_at dksX6_told_1 17 rfl rfl)
theorem dX6_told_41 : decode cX6_told 41 = .ok (.istore_n 2, 1) := dk_61 (dk_at dksX6_told_1 18 rfl rfl)
theorem dX6_told_42 : decode cX6_told 42 = .ok (.iinc 3 1, 3) := dk_132 3 1 (dk_at dksX6_told_1 19 rfl rfl)
theorem dX6_told_45 : decode cX6_told 45 = .ok (.goto (-29), 3) := dk_167 255 227 (dk_at dksX6_told_2 0 rfl rfl)
theorem dX6_told_48 : decode cX6_told 48 = .ok (.iload_n 2, 1) := dk_28 (dk_at dksX6_told_2 3 rfl rfl)
theorem dX6_told_49 : decode cX6_told 49 = .ok (.ireturn, 1) := dk_172 (dk_at dksX6_told_2 4 rfl rfl)
def dkwX6_looks_1 : List UInt8 := [27, 133, 28, 133, 184, 0, 78, 7, 182, 0, 134, 177]
abbrev dktX6_looks_1 : List UInt8 := dkwX6_looks_1 ++ []
def dkwX6_looks_0 : List UInt8 := [42, 42, 180, 0, 42, 2, 159, 0, 7, 4, 167, 0, 4, 3, 4, 182, 0, 134, 42, 42, 180, 0, 42, 133]
abbrev dktX6_looks_0 : List UInt8 := dkwX6_looks_0 ++ dktX6_looks_1
theorem dksX6_looks_0 : cX6_looks.data.toList.drop 0 = dktX6_looks_0 := by decide +kernel
theorem dksX6_looks_1 : cX6_looks.data.toList.drop 24 = dktX6_looks_1 := dk_seg dksX6_looks_0 24 rfl rfl
theorem dX6_looks_0 : decode cX6_looks 0 = .ok (.aload_n 0, 1) := dk_42 (dk_at dksX6_looks_0 0 rfl rfl)
theorem dX6_looks_1 : decode cX6_looks 1 = .ok (.aload_n 0, 1) := dk_42 (dk_at dksX6_looks_0 1 rfl rfl)
theorem dX6_looks_2 : decode cX6_looks 2 = .ok (.getfield 42, 3) := dk_180 0 42 (dk_at dksX6_looks_0 2 rfl rfl)
theorem dX6_looks_5 : decode cX6_looks 5 = .ok (.iconst (-1), 1) := dk_2 (dk_at dksX6_looks_0 5 rfl rfl)
theorem dX6_looks_6 : decode cX6_looks 6 = .ok (.if_icmp .eq 7, 3) := dk_159 0 7 (dk_at dksX6_looks_0 6 rfl rfl)
theorem dX6_looks_9 : decode cX6_looks 9 = .ok (.iconst 1, 1) := dk_4 (dk_at dksX6_looks_0 9 rfl rfl)
theorem dX6_looks_10 : decode cX6_looks 10 = .ok (.goto 4, 3) := dk_167 0 4 (dk_at dksX6_looks_0 10 rfl rfl)
theorem dX6_looks_13 : decode cX6_looks 13 = .ok (.iconst 0, 1) := dk_3 (dk_at dksX6_looks_0 13 rfl rfl)
theorem dX6_looks_14 : decode cX6_looks 14 = .ok (.iconst 1, 1) := dk_4 (dk_at dksX6_looks_0 14 rfl rfl)
theorem dX6_looks_15 : decode cX6_looks 15 = .ok (.invokevirtual 134, 3) := dk_182 0 134 (dk_at dksX6_looks_0 15 rfl rfl)
theorem dX6_looks_18 : decode cX6_looks 18 = .ok (.aload_n 0, 1) := dk_42 (dk_at dksX6_looks_0 18 rfl rfl)
theorem dX6_looks_19 : decode cX6_looks 19 = .ok (.aload_n 0, 1) := dk_42 (dk_at dksX6_looks_0 19 rfl rfl)
theorem dX6_looks_20 : decode cX6_looks 20 = .ok (.getfield 42, 3) := dk_180 0 42 (dk_at dksX6_looks_0 20 rfl rfl)
theorem dX6_looks_23 : decode cX6_looks 23 = .ok (.i2l, 1) := dk_133 (dk_at dksX6_looks_0 23 rfl rfl)
theorem dX6_looks_24 : decode cX6_looks 24 = .ok (.iload_n 1, 1) := dk_27 (dk_at dksX6_looks_1 0 rfl rfl)
theorem dX6_looks_25 : decode cX6_looks 25 = .ok (.i2l, 1) := dk_133 (dk_at dksX6_looks_1 1 rfl rfl)
theorem dX6_looks_26 : decode cX6_looks 26 = .ok (.iload_n 2, 1) := dk_28 (dk_at dksX6_looks_1 2 rfl rfl)
theorem dX6_looks_27 : decode cX6_looks 27 = .ok (.i2l, 1) := dk_133 (dk_at dksX6_looks_1 3 rfl rfl)
theorem dX6_looks_28 : decode cX6_looks 28 = .ok (.invokestatic 78, 3) := dk_184 0 78 (dk_at dksX6_looks_1 4 rfl rfl)
theorem dX6_looks_31 : decode cX6_looks 31 = .ok (.iconst 4, 1) := dk_7 (dk_at dksX6_looks_1 7 rfl rfl)
theorem dX6_looks_32 : decode cX6_looks 32 = .ok (.invokevirtual 134, 3) := dk_182 0 134 (dk_at dksX6_looks_1 8 rfl rfl)
theorem dX6_looks_35 : decode cX6_looks 35 = .ok (.return_, 1) := dk_177 (dk_at dksX6_looks_1 11 rfl rfl)
def dkwX6_must_0 : List UInt8 := [27, 154, 0, 16, 187, 0, 108, 89, 42, 180, 0, 60, 28, 183, 0, 110, 191, 177]
abbrev dktX6_must_0 : List UInt8 := dkwX6_must_0 ++ []
theorem dksX6_must_0 : cX6_must.data.toList.drop 0 = dktX6_must_0 := by decide +kernel
theorem dX6_must_0 : decode cX6_must 0 = .ok (.iload_n 1, 1) := dk_27 (dk_at dksX6_must_0 0 rfl rfl)
theorem dX6_must_1 : decode cX6_must 1 = .ok (.ifCond .ne 16, 3) := dk_154 0 16 (dk_at dksX6_must_0 1 rfl rfl)
theorem dX6_must_4 : decode cX6_must 4 = .ok (.new 108, 3) := dk_187 0 108 (dk_at dksX6_must_0 4 rfl rfl)
theorem dX6_must_7 : decode cX6_must 7 = .ok (.dup, 1) := dk_89 (dk_at dksX6_must_0 7 rfl rfl)
theorem dX6_must_8 : decode cX6_must 8 = .ok (.aload_n 0, 1) := dk_42 (dk_at dksX6_must_0 8 rfl rfl)
theorem dX6_must_9 : decode cX6_must 9 = .ok (.getfield 60, 3) := dk_180 0 60 (dk_at dksX6_must_0 9 rfl rfl)
theorem dX6_must_12 : decode cX6_must 12 = .ok (.iload_n 2, 1) := dk_28 (dk_at dksX6_must_0 12 rfl rfl)
theorem dX6_must_13 : decode cX6_must 13 = .ok (.invokespecial 110, 3) := dk_183 0 110 (dk_at dksX6_must_0 13 rfl rfl)
theorem dX6_must_16 : decode cX6_must 16 = .ok (.athrow, 1) := dk_191 (dk_at dksX6_must_0 16 rfl rfl)
theorem dX6_must_17 : decode cX6_must 17 = .ok (.return_, 1) := dk_177 (dk_at dksX6_must_0 17 rfl rfl)
def dkwX6_number_0 : List UInt8 := [42, 27, 28, 182, 0, 138, 42, 180, 0, 42, 62, 42, 182, 0, 141, 29, 172]
abbrev dktX6_number_0 : List UInt8 := dkwX6_number_0 ++ []
theorem dksX6_number_0 : cX6_number.data.toList.drop 0 = dktX6_number_0 := by decide +kernel
theorem dX6_number_0 : decode cX6_number 0 = .ok (.aload_n 0, 1) := dk_42 (dk_at dksX6_number_0 0 rfl rfl)
theorem dX6_number_1 : decode cX6_number 1 = .ok (.iload_n 1, 1) := dk_27 (dk_at dksX6_number_0 1 rfl rfl)
theorem dX6_number_2 : decode cX6_number 2 = .ok (.iload_n 2, 1) := dk_28 (dk_at dksX6_number_0 2 rfl rfl)
theorem dX6_number_3 : decode cX6_number 3 = .ok (.invokevirtual 138, 3) := dk_182 0 138 (dk_at dksX6_number_0 3 rfl rfl)
theorem dX6_number_6 : decode cX6_number 6 = .ok (.aload_n 0, 1) := dk_42 (dk_at dksX6_number_0 6 rfl rfl)
theorem dX6_number_7 : decode cX6_number 7 = .ok (.getfield 42, 3) := dk_180 0 42 (dk_at dksX6_number_0 7 rfl rfl)
theorem dX6_number_10 : decode cX6_number 10 = .ok (.istore_n 3, 1) := dk_62 (dk_at dksX6_number_0 10 rfl rfl)
theorem dX6_number_11 : decode cX6_number 11 = .ok (.aload_n 0, 1) := dk_42 (dk_at dksX6_number_0 11 rfl rfl)
theorem dX6_number_12 : decode cX6_number 12 = .ok (.invokevirtual 141, 3) := dk_182 0 141 (dk_at dksX6_number_0 12 rfl rfl)
theorem dX6_number_15 : decode cX6_number 15 = .ok (.iload_n 3, 1) := dk_29 (dk_at dksX6_number_0 15 rfl rfl)
theorem dX6_number_16 : decode cX6_number 16 = .ok (.ireturn, 1) := dk_172 (dk_at dksX6_number_0 16 rfl rfl)
def dkwX6_ends_1 : List UInt8 := [181, 1, 14, 177]
abbrev dktX6_ends_1 : List UInt8 := dkwX6_ends_1 ++ []
def dkwX6_ends_0 : List UInt8 := [42, 42, 180, 0, 63, 4, 182, 0, 134, 42, 182, 0, 141, 42, 180, 0, 18, 89, 180, 1, 14, 4, 96]
abbrev dktX6_ends_0 : List UInt8 := dkwX6_ends_0 ++ dktX6_ends_1
theorem dksX6_ends_0 : cX6_ends.data.toList.drop 0 = dktX6_ends_0 := by decide +kernel
theorem dksX6_ends_1 : cX6_ends.data.toList.drop 23 = dktX6_ends_1 := dk_seg dksX6_ends_0 23 rfl rfl
theorem dX6_ends_0 : decode cX6_ends 0 = .ok (.aload_n 0, 1) := dk_42 (dk_at dksX6_ends_0 0 rfl rfl)
theorem dX6_ends_1 : decode cX6_ends 1 = .ok (.aload_n 0, 1) := dk_42 (dk_at dksX6_ends_0 1 rfl rfl)
theorem dX6_ends_2 : decode cX6_ends 2 = .ok (.getfield 63, 3) := dk_180 0 63 (dk_at dksX6_ends_0 2 rfl rfl)
theorem dX6_ends_5 : decode cX6_ends 5 = .ok (.iconst 1, 1) := dk_4 (dk_at dksX6_ends_0 5 rfl rfl)
theorem dX6_ends_6 : decode cX6_ends 6 = .ok (.invokevirtual 134, 3) := dk_182 0 134 (dk_at dksX6_ends_0 6 rfl rfl)
theorem dX6_ends_9 : decode cX6_ends 9 = .ok (.aload_n 0, 1) := dk_42 (dk_at dksX6_ends_0 9 rfl rfl)
theorem dX6_ends_10 : decode cX6_ends 10 = .ok (.invokevirtual 141, 3) := dk_182 0 141 (dk_at dksX6_ends_0 10 rfl rfl)
theorem dX6_ends_13 : decode cX6_ends 13 = .ok (.aload_n 0, 1) := dk_42 (dk_at dksX6_ends_0 13 rfl rfl)
theorem dX6_ends_14 : decode cX6_ends 14 = .ok (.getfield 18, 3) := dk_180 0 18 (dk_at dksX6_ends_0 14 rfl rfl)
theorem dX6_ends_17 : decode cX6_ends 17 = .ok (.dup, 1) := dk_89 (dk_at dksX6_ends_0 17 rfl rfl)
theorem dX6_ends_18 : decode cX6_ends 18 = .ok (.getfield 270, 3) := dk_180 1 14 (dk_at dksX6_ends_0 18 rfl rfl)
theorem dX6_ends_21 : decode cX6_ends 21 = .ok (.iconst 1, 1) := dk_4 (dk_at dksX6_ends_0 21 rfl rfl)
theorem dX6_ends_22 : decode cX6_ends 22 = .ok (.iadd, 1) := dk_96 (dk_at dksX6_ends_0 22 rfl rfl)
theorem dX6_ends_23 : decode cX6_ends 23 = .ok (.putfield 270, 3) := dk_181 1 14 (dk_at dksX6_ends_1 0 rfl rfl)
theorem dX6_ends_26 : decode cX6_ends 26 = .ok (.return_, 1) := dk_177 (dk_at dksX6_ends_1 3 rfl rfl)
def dkwX6_table_3 : List UInt8 := [180, 0, 18, 180, 0, 161, 182, 0, 177, 28, 45, 183, 0, 179, 182, 0, 182, 177]
abbrev dktX6_table_3 : List UInt8 := dkwX6_table_3 ++ []
def dkwX6_table_2 : List UInt8 := [100, 182, 0, 169, 79, 132, 4, 1, 167, 255, 228, 42, 180, 0, 18, 180, 0, 161, 187, 0, 175, 89, 43, 42]
abbrev dktX6_table_2 : List UInt8 := dkwX6_table_2 ++ dktX6_table_3
def dkwX6_table_1 : List UInt8 := [78, 3, 54, 4, 21, 4, 45, 190, 162, 0, 27, 45, 21, 4, 42, 3, 42, 180, 0, 18, 180, 0, 172, 4]
abbrev dktX6_table_1 : List UInt8 := dkwX6_table_1 ++ dktX6_table_2
def dkwX6_table_0 : List UInt8 := [42, 42, 180, 0, 18, 180, 0, 161, 182, 0, 165, 76, 42, 4, 7, 182, 0, 169, 61, 4, 28, 120, 188, 10]
abbrev dktX6_table_0 : List UInt8 := dkwX6_table_0 ++ dktX6_table_1
theorem dksX6_table_0 : cX6_table.data.toList.drop 0 = dktX6_table_0 := by decide +kernel
theorem dksX6_table_1 : cX6_table.data.toList.drop 24 = dktX6_table_1 := dk_seg dksX6_table_0 24 rfl rfl
theorem dksX6_table_2 : cX6_table.data.toList.drop 48 = dktX6_table_2 := dk_seg dksX6_table_1 24 rfl rfl
theorem dksX6_table_3 : cX6_table.data.toList.drop 72 = dktX6_table_3 := dk_seg dksX6_table_2 24 rfl rfl
theorem dX6_table_0 : decode cX6_table 0 = .ok (.aload_n 0, 1) := dk_42 (dk_at dksX6_table_0 0 rfl rfl)
theorem dX6_table_1 : decode cX6_table 1 = .ok (.aload_n 0, 1) := dk_42 (dk_at dksX6_table_0 1 rfl rfl)
theorem dX6_table_2 : decode cX6_table 2 = .ok (.getfield 18, 3) := dk_180 0 18 (dk_at dksX6_table_0 2 rfl rfl)
theorem dX6_table_5 : decode cX6_table 5 = .ok (.getfield 161, 3) := dk_180 0 161 (dk_at dksX6_table_0 5 rfl rfl)
theorem dX6_table_8 : decode cX6_table 8 = .ok (.invokevirtual 165, 3) := dk_182 0 165 (dk_at dksX6_table_0 8 rfl rfl)
theorem dX6_table_11 : decode cX6_table 11 = .ok (.astore_n 1, 1) := dk_76 (dk_at dksX6_table_0 11 rfl rfl)
theorem dX6_table_12 : decode cX6_table 12 = .ok (.aload_n 0, 1) := dk_42 (dk_at dksX6_table_0 12 rfl rfl)
theorem dX6_table_13 : decode cX6_table 13 = .ok (.iconst 1, 1) := dk_4 (dk_at dksX6_table_0 13 rfl rfl)
theorem dX6_table_14 : decode cX6_table 14 = .ok (.iconst 4, 1) := dk_7 (dk_at dksX6_table_0 14 rfl rfl)
theorem dX6_table_15 : decode cX6_table 15 = .ok (.invokevirtual 169, 3) := dk_182 0 169 (dk_at dksX6_table_0 15 rfl rfl)
theorem dX6_table_18 : decode cX6_table 18 = .ok (.istore_n 2, 1) := dk_61 (dk_at dksX6_table_0 18 rfl rfl)
theorem dX6_table_19 : decode cX6_table 19 = .ok (.iconst 1, 1) := dk_4 (dk_at dksX6_table_0 19 rfl rfl)
theorem dX6_table_20 : decode cX6_table 20 = .ok (.iload_n 2, 1) := dk_28 (dk_at dksX6_table_0 20 rfl rfl)
theorem dX6_table_21 : decode cX6_table 21 = .ok (.ishl, 1) := dk_120 (dk_at dksX6_table_0 21 rfl rfl)
theorem dX6_table_22 : decode cX6_table 22 = .ok (.newarray .int, 2) := dk_188_10 (dk_at dksX6_table_0 22 rfl rfl)
theorem dX6_table_24 : decode cX6_table 24 = .ok (.astore_n 3, 1) := dk_78 (dk_at dksX6_table_1 0 rfl rfl)
theorem dX6_table_25 : decode cX6_table 25 = .ok (.iconst 0, 1) := dk_3 (dk_at dksX6_table_1 1 rfl rfl)
theorem dX6_table_26 : decode cX6_table 26 = .ok (.istore 4, 2) := dk_54 4 (dk_at dksX6_table_1 2 rfl rfl)
theorem dX6_table_28 : decode cX6_table 28 = .ok (.iload 4, 2) := dk_21 4 (dk_at dksX6_table_1 4 rfl rfl)
theorem dX6_table_30 : decode cX6_table 30 = .ok (.aload_n 3, 1) := dk_45 (dk_at dksX6_table_1 6 rfl rfl)
theorem dX6_table_31 : decode cX6_table 31 = .ok (.arraylength, 1) := dk_190 (dk_at dksX6_table_1 7 rfl rfl)
theorem dX6_table_32 : decode cX6_table 32 = .ok (.if_icmp .ge 27, 3) := dk_162 0 27 (dk_at dksX6_table_1 8 rfl rfl)
theorem dX6_table_35 : decode cX6_table 35 = .ok (.aload_n 3, 1) := dk_45 (dk_at dksX6_table_1 11 rfl rfl)
theorem dX6_table_36 : decode cX6_table 36 = .ok (.iload 4, 2) := dk_21 4 (dk_at dksX6_table_1 12 rfl rfl)
theorem dX6_table_38 : decode cX6_table 38 = .ok (.aload_n 0, 1) := dk_42 (dk_at dksX6_table_1 14 rfl rfl)
theorem dX6_table_39 : decode cX6_table 39 = .ok (.iconst 0, 1) := dk_3 (dk_at dksX6_table_1 15 rfl rfl)
theorem dX6_table_40 : decode cX6_table 40 = .ok (.aload_n 0, 1) := dk_42 (dk_at dksX6_table_1 16 rfl rfl)
theorem dX6_table_41 : decode cX6_table 41 = .ok (.getfield 18, 3) := dk_180 0 18 (dk_at dksX6_table_1 17 rfl rfl)
theorem dX6_table_44 : decode cX6_table 44 = .ok (.getfield 172, 3) := dk_180 0 172 (dk_at dksX6_table_1 20 rfl rfl)
theorem dX6_table_47 : decode cX6_table 47 = .ok (.iconst 1, 1) := dk_4 (dk_at dksX6_table_1 23 rfl rfl)
theorem dX6_table_48 : decode cX6_table 48 = .ok (.isub, 1) := dk_100 (dk_at dksX6_table_2 0 rfl rfl)
theorem dX6_table_49 : decode cX6_table 49 = .ok (.invokevirtual 169, 3) := dk_182 0 169 (dk_at dksX6_table_2 1 rfl rfl)
theorem dX6_table_52 : decode cX6_table 52 = .ok (.iastore, 1) := dk_79 (dk_at dksX6_table_2 4 rfl rfl)
theorem dX6_table_53 : decode cX6_table 53 = .ok (.iinc 4 1, 3) := dk_132 4 1 (dk_at dksX6_table_2 5 rfl rfl)
theorem dX6_table_56 : decode cX6_table 56 = .ok (.goto (-28), 3) := dk_167 255 228 (dk_at dksX6_table_2 8 rfl rfl)
theorem dX6_table_59 : decode cX6_table 59 = .ok (.aload_n 0, 1) := dk_42 (dk_at dksX6_table_2 11 rfl rfl)
theorem dX6_table_60 : decode cX6_table 60 = .ok (.getfield 18, 3) := dk_180 0 18 (dk_at dksX6_table_2 12 rfl rfl)
theorem dX6_table_63 : decode cX6_table 63 = .ok (.getfield 161, 3) := dk_180 0 161 (dk_at dksX6_table_2 15 rfl rfl)
theorem dX6_table_66 : decode cX6_table 66 = .ok (.new 175, 3) := dk_187 0 175 (dk_at dksX6_table_2 18 rfl rfl)
theorem dX6_table_69 : decode cX6_table 69 = .ok (.dup, 1) := dk_89 (dk_at dksX6_table_2 21 rfl rfl)
theorem dX6_table_70 : decode cX6_table 70 = .ok (.aload_n 1, 1) := dk_43 (dk_at dksX6_table_2 22 rfl rfl)
theorem dX6_table_71 : decode cX6_table 71 = .ok (.aload_n 0, 1) := dk_42 (dk_at dksX6_table_2 23 rfl rfl)
theorem dX6_table_72 : decode cX6_table 72 = .ok (.getfield 18, 3) := dk_180 0 18 (dk_at dksX6_table_3 0 rfl rfl)
theorem dX6_table_75 : decode cX6_table 75 = .ok (.getfield 161, 3) := dk_180 0 161 (dk_at dksX6_table_3 3 rfl rfl)
theorem dX6_table_78 : decode cX6_table 78 = .ok (.invokevirtual 177, 3) := dk_182 0 177 (dk_at dksX6_table_3 6 rfl rfl)
theorem dX6_table_81 : decode cX6_table 81 = .ok (.iload_n 2, 1) := dk_28 (dk_at dksX6_table_3 9 rfl rfl)
theorem dX6_table_82 : decode cX6_table 82 = .ok (.aload_n 3, 1) := dk_45 (dk_at dksX6_table_3 10 rfl rfl)
theorem dX6_table_83 : decode cX6_table 83 = .ok (.invokespecial 179, 3) := dk_183 0 179 (dk_at dksX6_table_3 11 rfl rfl)
theorem dX6_table_86 : decode cX6_table 86 = .ok (.invokevirtual 182, 3) := dk_182 0 182 (dk_at dksX6_table_3 14 rfl rfl)
theorem dX6_table_89 : decode cX6_table 89 = .ok (.return_, 1) := dk_177 (dk_at dksX6_table_3 17 rfl rfl)
def dkwX6_begins_2 : List UInt8 := [167, 0, 4, 3, 5, 182, 0, 134, 42, 180, 0, 38, 77, 42, 182, 0, 141, 44, 176]
abbrev dktX6_begins_2 : List UInt8 := dkwX6_begins_2 ++ []
def dkwX6_begins_1 : List UInt8 := [182, 0, 150, 4, 182, 0, 134, 42, 42, 180, 0, 18, 42, 180, 0, 38, 182, 0, 153, 154, 0, 7, 4]
abbrev dktX6_begins_1 : List UInt8 := dkwX6_begins_1 ++ dktX6_begins_2
def dkwX6_begins_0 : List UInt8 := [42, 43, 182, 0, 144, 154, 0, 7, 4, 167, 0, 4, 3, 8, 182, 0, 134, 42, 182, 0, 141, 42, 42]
abbrev dktX6_begins_0 : List UInt8 := dkwX6_begins_0 ++ dktX6_begins_1
theorem dksX6_begins_0 : cX6_begins.data.toList.drop 0 = dktX6_begins_0 := by decide +kernel
theorem dksX6_begins_1 : cX6_begins.data.toList.drop 23 = dktX6_begins_1 := dk_seg dksX6_begins_0 23 rfl rfl
theorem dksX6_begins_2 : cX6_begins.data.toList.drop 46 = dktX6_begins_2 := dk_seg dksX6_begins_1 23 rfl rfl
theorem dX6_begins_0 : decode cX6_begins 0 = .ok (.aload_n 0, 1) := dk_42 (dk_at dksX6_begins_0 0 rfl rfl)
theorem dX6_begins_1 : decode cX6_begins 1 = .ok (.aload_n 1, 1) := dk_43 (dk_at dksX6_begins_0 1 rfl rfl)
theorem dX6_begins_2 : decode cX6_begins 2 = .ok (.invokevirtual 144, 3) := dk_182 0 144 (dk_at dksX6_begins_0 2 rfl rfl)
theorem dX6_begins_5 : decode cX6_begins 5 = .ok (.ifCond .ne 7, 3) := dk_154 0 7 (dk_at dksX6_begins_0 5 rfl rfl)
theorem dX6_begins_8 : decode cX6_begins 8 = .ok (.iconst 1, 1) := dk_4 (dk_at dksX6_begins_0 8 rfl rfl)
theorem dX6_begins_9 : decode cX6_begins 9 = .ok (.goto 4, 3) := dk_167 0 4 (dk_at dksX6_begins_0 9 rfl rfl)
theorem dX6_begins_12 : decode cX6_begins 12 = .ok (.iconst 0, 1) := dk_3 (dk_at dksX6_begins_0 12 rfl rfl)
theorem dX6_begins_13 : decode cX6_begins 13 = .ok (.iconst 5, 1) := dk_8 (dk_at dksX6_begins_0 13 rfl rfl)
theorem dX6_begins_14 : decode cX6_begins 14 = .ok (.invokevirtual 134, 3) := dk_182 0 134 (dk_at dksX6_begins_0 14 rfl rfl)
theorem dX6_begins_17 : decode cX6_begins 17 = .ok (.aload_n 0, 1) := dk_42 (dk_at dksX6_begins_0 17 rfl rfl)
theorem dX6_begins_18 : decode cX6_begins 18 = .ok (.invokevirtual 141, 3) := dk_182 0 141 (dk_at dksX6_begins_0 18 rfl rfl)
theorem dX6_begins_21 : decode cX6_begins 21 = .ok (.aload_n 0, 1) := dk_42 (dk_at dksX6_begins_0 21 rfl rfl)
theorem dX6_begins_22 : decode cX6_begins 22 = .ok (.aload_n 0, 1) := dk_42 (dk_at dksX6_begins_0 22 rfl rfl)
theorem dX6_begins_23 : decode cX6_begins 23 = .ok (.invokevirtual 150, 3) := dk_182 0 150 (dk_at dksX6_begins_1 0 rfl rfl)
theorem dX6_begins_26 : decode cX6_begins 26 = .ok (.iconst 1, 1) := dk_4 (dk_at dksX6_begins_1 3 rfl rfl)
theorem dX6_begins_27 : decode cX6_begins 27 = .ok (.invokevirtual 134, 3) := dk_182 0 134 (dk_at dksX6_begins_1 4 rfl rfl)
theorem dX6_begins_30 : decode cX6_begins 30 = .ok (.aload_n 0, 1) := dk_42 (dk_at dksX6_begins_1 7 rfl rfl)
theorem dX6_begins_31 : decode cX6_begins 31 = .ok (.aload_n 0, 1) := dk_42 (dk_at dksX6_begins_1 8 rfl rfl)
theorem dX6_begins_32 : decode cX6_begins 32 = .ok (.getfield 18, 3) := dk_180 0 18 (dk_at dksX6_begins_1 9 rfl rfl)
theorem dX6_begins_35 : decode cX6_begins 35 = .ok (.aload_n 0, 1) := dk_42 (dk_at dksX6_begins_1 12 rfl rfl)
theorem dX6_begins_36 : decode cX6_begins 36 = .ok (.getfield 38, 3) := dk_180 0 38 (dk_at dksX6_begins_1 13 rfl rfl)
theorem dX6_begins_39 : decode cX6_begins 39 = .ok (.invokevirtual 153, 3) := dk_182 0 153 (dk_at dksX6_begins_1 16 rfl rfl)
theorem dX6_begins_42 : decode cX6_begins 42 = .ok (.ifCond .ne 7, 3) := dk_154 0 7 (dk_at dksX6_begins_1 19 rfl rfl)
theorem dX6_begins_45 : decode cX6_begins 45 = .ok (.iconst 1, 1) := dk_4 (dk_at dksX6_begins_1 22 rfl rfl)
theorem dX6_begins_46 : decode cX6_begins 46 = .ok (.goto 4, 3) := dk_167 0 4 (dk_at dksX6_begins_2 0 rfl rfl)
theorem dX6_begins_49 : decode cX6_begins 49 = .ok (.iconst 0, 1) := dk_3 (dk_at dksX6_begins_2 3 rfl rfl)
theorem dX6_begins_50 : decode cX6_begins 50 = .ok (.iconst 2, 1) := dk_5 (dk_at dksX6_begins_2 4 rfl rfl)
theorem dX6_begins_51 : decode cX6_begins 51 = .ok (.invokevirtual 134, 3) := dk_182 0 134 (dk_at dksX6_begins_2 5 rfl rfl)
theorem dX6_begins_54 : decode cX6_begins 54 = .ok (.aload_n 0, 1) := dk_42 (dk_at dksX6_begins_2 8 rfl rfl)
theorem dX6_begins_55 : decode cX6_begins 55 = .ok (.getfield 38, 3) := dk_180 0 38 (dk_at dksX6_begins_2 9 rfl rfl)
theorem dX6_begins_58 : decode cX6_begins 58 = .ok (.astore_n 2, 1) := dk_77 (dk_at dksX6_begins_2 12 rfl rfl)
theorem dX6_begins_59 : decode cX6_begins 59 = .ok (.aload_n 0, 1) := dk_42 (dk_at dksX6_begins_2 13 rfl rfl)
theorem dX6_begins_60 : decode cX6_begins 60 = .ok (.invokevirtual 141, 3) := dk_182 0 141 (dk_at dksX6_begins_2 14 rfl rfl)
theorem dX6_begins_63 : decode cX6_begins 63 = .ok (.aload_n 2, 1) := dk_44 (dk_at dksX6_begins_2 17 rfl rfl)
theorem dX6_begins_64 : decode cX6_begins 64 = .ok (.areturn, 1) := dk_176 (dk_at dksX6_begins_2 18 rfl rfl)
def dkwX6_isName_8 : List UInt8 := [3, 172, 4, 172]
abbrev dktX6_isName_8 : List UInt8 := dkwX6_isName_8 ++ []
def dkwX6_isName_7 : List UInt8 := [170, 0, 0, 0, 0, 0, 45, 0, 0, 0, 0, 0, 0, 0, 6, 0, 0, 0, 43, 0, 0, 0, 43, 0, 0, 0, 43, 0, 0, 0, 43, 0, 0, 0, 43, 0, 0, 0, 43, 0, 0, 0, 43]
abbrev dktX6_isName_7 : List UInt8 := dkwX6_isName_7 ++ dktX6_isName_8
def dkwX6_isName_6 : List UInt8 := [61, 28]
abbrev dktX6_isName_6 : List UInt8 := dkwX6_isName_6 ++ dktX6_isName_7
def dkwX6_isName_5 : List UInt8 := [18, 130, 182, 0, 118, 153, 0, 20, 8, 61, 167, 0, 15, 43, 18, 132, 182, 0, 118, 153, 0, 6, 16, 6]
abbrev dktX6_isName_5 : List UInt8 := dkwX6_isName_5 ++ dktX6_isName_6
def dkwX6_isName_4 : List UInt8 := [153, 0, 48, 6, 61, 167, 0, 43, 43, 18, 128, 182, 0, 118, 153, 0, 34, 7, 61, 167, 0, 29, 43]
abbrev dktX6_isName_4 : List UInt8 := dkwX6_isName_4 ++ dktX6_isName_5
def dkwX6_isName_3 : List UInt8 := [61, 167, 0, 71, 43, 18, 124, 182, 0, 118, 153, 0, 62, 5, 61, 167, 0, 57, 43, 18, 126, 182, 0, 118]
abbrev dktX6_isName_3 : List UInt8 := dkwX6_isName_3 ++ dktX6_isName_4
def dkwX6_isName_2 : List UInt8 := [43, 18, 36, 182, 0, 118, 153, 0, 90, 3, 61, 167, 0, 85, 43, 18, 122, 182, 0, 118, 153, 0, 76, 4]
abbrev dktX6_isName_2 : List UInt8 := dkwX6_isName_2 ++ dktX6_isName_3
def dkwX6_isName_1 : List UInt8 := [171, 0, 0, 0, 161, 0, 0, 0, 7, 0, 0, 0, 0, 0, 0, 0, 65, 0, 46, 6, 209, 0, 0, 0, 121, 0, 48, 76, 203, 0, 0, 0, 107, 0, 51, 174, 2, 0, 0, 0, 135, 0, 55, 176, 133, 0, 0, 0, 149, 5, 206, 160, 250, 0, 0, 0, 79, 6, 144, 59, 206, 0, 0, 0, 93]
abbrev dktX6_isName_1 : List UInt8 := dkwX6_isName_1 ++ dktX6_isName_2
def dkwX6_isName_0 : List UInt8 := [42, 180, 0, 38, 76, 2, 61, 43, 182, 0, 113]
abbrev dktX6_isName_0 : List UInt8 := dkwX6_isName_0 ++ dktX6_isName_1
theorem dksX6_isName_0 : cX6_isName.data.toList.drop 0 = dktX6_isName_0 := by decide +kernel
theorem dksX6_isName_1 : cX6_isName.data.toList.drop 11 = dktX6_isName_1 := dk_seg dksX6_isName_0 11 rfl rfl
theorem dksX6_isName_2 : cX6_isName.data.toList.drop 76 = dktX6_isName_2 := dk_seg dksX6_isName_1 65 rfl rfl
theorem dksX6_isName_3 : cX6_isName.data.toList.drop 100 = dktX6_isName_3 := dk_seg dksX6_isName_2 24 rfl rfl
theorem dksX6_isName_4 : cX6_isName.data.toList.drop 124 = dktX6_isName_4 := dk_seg dksX6_isName_3 24 rfl rfl
theorem dksX6_isName_5 : cX6_isName.data.toList.drop 147 = dktX6_isName_5 := dk_seg dksX6_isName_4 23 rfl rfl
theorem dksX6_isName_6 : cX6_isName.data.toList.drop 171 = dktX6_isName_6 := dk_seg dksX6_isName_5 24 rfl rfl
theorem dksX6_isName_7 : cX6_isName.data.toList.drop 173 = dktX6_isName_7 := dk_seg dksX6_isName_6 2 rfl rfl
theorem dksX6_isName_8 : cX6_isName.data.toList.drop 216 = dktX6_isName_8 := dk_seg dksX6_isName_7 43 rfl rfl
theorem dX6_isName_0 : decode cX6_isName 0 = .ok (.aload_n 0, 1) := dk_42 (dk_at dksX6_isName_0 0 rfl rfl)
theorem dX6_isName_1 : decode cX6_isName 1 = .ok (.getfield 38, 3) := dk_180 0 38 (dk_at dksX6_isName_0 1 rfl rfl)
theorem dX6_isName_4 : decode cX6_isName 4 = .ok (.astore_n 1, 1) := dk_76 (dk_at dksX6_isName_0 4 rfl rfl)
theorem dX6_isName_5 : decode cX6_isName 5 = .ok (.iconst (-1), 1) := dk_2 (dk_at dksX6_isName_0 5 rfl rfl)
theorem dX6_isName_6 : decode cX6_isName 6 = .ok (.istore_n 2, 1) := dk_61 (dk_at dksX6_isName_0 6 rfl rfl)
theorem dX6_isName_7 : decode cX6_isName 7 = .ok (.aload_n 1, 1) := dk_43 (dk_at dksX6_isName_0 7 rfl rfl)
theorem dX6_isName_8 : decode cX6_isName 8 = .ok (.invokevirtual 113, 3) := dk_182 0 113 (dk_at dksX6_isName_0 8 rfl rfl)
theorem dX6_isName_11 : decode cX6_isName 11 = .ok (.lookupswitch 161 #[(0, 65), (3016401, 121), (3165387, 107), (3386882, 135), (3649669, 149), (97427706, 79), (110115790, 93)], 65) := by decide +kernel
theorem dX6_isName_76 : decode cX6_isName 76 = .ok (.aload_n 1, 1) := dk_43 (dk_at dksX6_isName_2 0 rfl rfl)
theorem dX6_isName_77 : decode cX6_isName 77 = .ok (.ldc 36, 2) := dk_18 36 (dk_at dksX6_isName_2 1 rfl rfl)
theorem dX6_isName_79 : decode cX6_isName 79 = .ok (.invokevirtual 118, 3) := dk_182 0 118 (dk_at dksX6_isName_2 3 rfl rfl)
theorem dX6_isName_82 : decode cX6_isName 82 = .ok (.ifCond .eq 90, 3) := dk_153 0 90 (dk_at dksX6_isName_2 6 rfl rfl)
theorem dX6_isName_85 : decode cX6_isName 85 = .ok (.iconst 0, 1) := dk_3 (dk_at dksX6_isName_2 9 rfl rfl)
theorem dX6_isName_86 : decode cX6_isName 86 = .ok (.istore_n 2, 1) := dk_61 (dk_at dksX6_isName_2 10 rfl rfl)
theorem dX6_isName_87 : decode cX6_isName 87 = .ok (.goto 85, 3) := dk_167 0 85 (dk_at dksX6_isName_2 11 rfl rfl)
theorem dX6_isName_90 : decode cX6_isName 90 = .ok (.aload_n 1, 1) := dk_43 (dk_at dksX6_isName_2 14 rfl rfl)
theorem dX6_isName_91 : decode cX6_isName 91 = .ok (.ldc 122, 2) := dk_18 122 (dk_at dksX6_isName_2 15 rfl rfl)
theorem dX6_isName_93 : decode cX6_isName 93 = .ok (.invokevirtual 118, 3) := dk_182 0 118 (dk_at dksX6_isName_2 17 rfl rfl)
theorem dX6_isName_96 : decode cX6_isName 96 = .ok (.ifCond .eq 76, 3) := dk_153 0 76 (dk_at dksX6_isName_2 20 rfl rfl)
theorem dX6_isName_99 : decode cX6_isName 99 = .ok (.iconst 1, 1) := dk_4 (dk_at dksX6_isName_2 23 rfl rfl)
theorem dX6_isName_100 : decode cX6_isName 100 = .ok (.istore_n 2, 1) := dk_61 (dk_at dksX6_isName_3 0 rfl rfl)
theorem dX6_isName_101 : decode cX6_isName 101 = .ok (.goto 71, 3) := dk_167 0 71 (dk_at dksX6_isName_3 1 rfl rfl)
theorem dX6_isName_104 : decode cX6_isName 104 = .ok (.aload_n 1, 1) := dk_43 (dk_at dksX6_isName_3 4 rfl rfl)
theorem dX6_isName_105 : decode cX6_isName 105 = .ok (.ldc 124, 2) := dk_18 124 (dk_at dksX6_isName_3 5 rfl rfl)
theorem dX6_isName_107 : decode cX6_isName 107 = .ok (.invokevirtual 118, 3) := dk_182 0 118 (dk_at dksX6_isName_3 7 rfl rfl)
theorem dX6_isName_110 : decode cX6_isName 110 = .ok (.ifCond .eq 62, 3) := dk_153 0 62 (dk_at dksX6_isName_3 10 rfl rfl)
theorem dX6_isName_113 : decode cX6_isName 113 = .ok (.iconst 2, 1) := dk_5 (dk_at dksX6_isName_3 13 rfl rfl)
theorem dX6_isName_114 : decode cX6_isName 114 = .ok (.istore_n 2, 1) := dk_61 (dk_at dksX6_isName_3 14 rfl rfl)
theorem dX6_isName_115 : decode cX6_isName 115 = .ok (.goto 57, 3) := dk_167 0 57 (dk_at dksX6_isName_3 15 rfl rfl)
theorem dX6_isName_118 : decode cX6_isName 118 = .ok (.aload_n 1, 1) := dk_43 (dk_at dksX6_isName_3 18 rfl rfl)
theorem dX6_isName_119 : decode cX6_isName 119 = .ok (.ldc 126, 2) := dk_18 126 (dk_at dksX6_isName_3 19 rfl rfl)
theorem dX6_isName_121 : decode cX6_isName 121 = .ok (.invokevirtual 118, 3) := dk_182 0 118 (dk_at dksX6_isName_3 21 rfl rfl)
theorem dX6_isName_124 : decode cX6_isName 124 = .ok (.ifCond .eq 48, 3) := dk_153 0 48 (dk_at dksX6_isName_4 0 rfl rfl)
theorem dX6_isName_127 : decode cX6_isName 127 = .ok (.iconst 3, 1) := dk_6 (dk_at dksX6_isName_4 3 rfl rfl)
theorem dX6_isName_128 : decode cX6_isName 128 = .ok (.istore_n 2, 1) := dk_61 (dk_at dksX6_isName_4 4 rfl rfl)
theorem dX6_isName_129 : decode cX6_isName 129 = .ok (.goto 43, 3) := dk_167 0 43 (dk_at dksX6_isName_4 5 rfl rfl)
theorem dX6_isName_132 : decode cX6_isName 132 = .ok (.aload_n 1, 1) := dk_43 (dk_at dksX6_isName_4 8 rfl rfl)
theorem dX6_isName_133 : decode cX6_isName 133 = .ok (.ldc 128, 2) := dk_18 128 (dk_at dksX6_isName_4 9 rfl rfl)
theorem dX6_isName_135 : decode cX6_isName 135 = .ok (.invokevirtual 118, 3) := dk_182 0 118 (dk_at dksX6_isName_4 11 rfl rfl)
theorem dX6_isName_138 : decode cX6_isName 138 = .ok (.ifCond .eq 34, 3) := dk_153 0 34 (dk_at dksX6_isName_4 14 rfl rfl)
theorem dX6_isName_141 : decode cX6_isName 141 = .ok (.iconst 4, 1) := dk_7 (dk_at dksX6_isName_4 17 rfl rfl)
theorem dX6_isName_142 : decode cX6_isName 142 = .ok (.istore_n 2, 1) := dk_61 (dk_at dksX6_isName_4 18 rfl rfl)
theorem dX6_isName_143 : decode cX6_isName 143 = .ok (.goto 29, 3) := dk_167 0 29 (dk_at dksX6_isName_4 19 rfl rfl)
theorem dX6_isName_146 : decode cX6_isName 146 = .ok (.aload_n 1, 1) := dk_43 (dk_at dksX6_isName_4 22 rfl rfl)
theorem dX6_isName_147 : decode cX6_isName 147 = .ok (.ldc 130, 2) := dk_18 130 (dk_at dksX6_isName_5 0 rfl rfl)
theorem dX6_isName_149 : decode cX6_isName 149 = .ok (.invokevirtual 118, 3) := dk_182 0 118 (dk_at dksX6_isName_5 2 rfl rfl)
theorem dX6_isName_152 : decode cX6_isName 152 = .ok (.ifCond .eq 20, 3) := dk_153 0 20 (dk_at dksX6_isName_5 5 rfl rfl)
theorem dX6_isName_155 : decode cX6_isName 155 = .ok (.iconst 5, 1) := dk_8 (dk_at dksX6_isName_5 8 rfl rfl)
theorem dX6_isName_156 : decode cX6_isName 156 = .ok (.istore_n 2, 1) := dk_61 (dk_at dksX6_isName_5 9 rfl rfl)
theorem dX6_isName_157 : decode cX6_isName 157 = .ok (.goto 15, 3) := dk_167 0 15 (dk_at dksX6_isName_5 10 rfl rfl)
theorem dX6_isName_160 : decode cX6_isName 160 = .ok (.aload_n 1, 1) := dk_43 (dk_at dksX6_isName_5 13 rfl rfl)
theorem dX6_isName_161 : decode cX6_isName 161 = .ok (.ldc 132, 2) := dk_18 132 (dk_at dksX6_isName_5 14 rfl rfl)
theorem dX6_isName_163 : decode cX6_isName 163 = .ok (.invokevirtual 118, 3) := dk_182 0 118 (dk_at dksX6_isName_5 16 rfl rfl)
theorem dX6_isName_166 : decode cX6_isName 166 = .ok (.ifCond .eq 6, 3) := dk_153 0 6 (dk_at dksX6_isName_5 19 rfl rfl)
theorem dX6_isName_169 : decode cX6_isName 169 = .ok (.bipush 6, 2) := dk_16 6 (dk_at dksX6_isName_5 22 rfl rfl)
theorem dX6_isName_171 : decode cX6_isName 171 = .ok (.istore_n 2, 1) := dk_61 (dk_at dksX6_isName_6 0 rfl rfl)
theorem dX6_isName_172 : decode cX6_isName 172 = .ok (.iload_n 2, 1) := dk_28 (dk_at dksX6_isName_6 1 rfl rfl)
theorem dX6_isName_173 : decode cX6_isName 173 = .ok (.tableswitch 45 0 6 #[43, 43, 43, 43, 43, 43, 43], 43) := by decide +kernel
theorem dX6_isName_216 : decode cX6_isName 216 = .ok (.iconst 0, 1) := dk_3 (dk_at dksX6_isName_8 0 rfl rfl)
theorem dX6_isName_217 : decode cX6_isName 217 = .ok (.ireturn, 1) := dk_172 (dk_at dksX6_isName_8 1 rfl rfl)
theorem dX6_isName_218 : decode cX6_isName 218 = .ok (.iconst 1, 1) := dk_4 (dk_at dksX6_isName_8 2 rfl rfl)
theorem dX6_isName_219 : decode cX6_isName 219 = .ok (.ireturn, 1) := dk_172 (dk_at dksX6_isName_8 3 rfl rfl)
def dkwX6_gate_10 : List UInt8 := [180, 0, 161, 182, 0, 177, 29, 44, 29, 182, 0, 203, 183, 0, 179, 182, 0, 182, 177]
abbrev dktX6_gate_10 : List UInt8 := dkwX6_gate_10 ++ []
def dkwX6_gate_9 : List UInt8 := [132, 4, 1, 167, 255, 92, 42, 180, 0, 18, 180, 0, 161, 187, 0, 175, 89, 43, 42, 180, 0, 18]
abbrev dktX6_gate_9 : List UInt8 := dkwX6_gate_9 ++ dktX6_gate_10
def dkwX6_gate_8 : List UInt8 := [182, 0, 169, 79, 44, 180, 0, 199, 21, 6, 50, 21, 5, 44, 180, 0, 199, 21, 5, 50, 21, 6, 46, 79]
abbrev dktX6_gate_8 : List UInt8 := dkwX6_gate_8 ++ dktX6_gate_9
def dkwX6_gate_7 : List UInt8 := [54, 6, 44, 180, 0, 199, 21, 5, 50, 21, 6, 42, 4, 42, 180, 0, 18, 180, 0, 172, 4, 100]
abbrev dktX6_gate_7 : List UInt8 := dkwX6_gate_7 ++ dktX6_gate_8
def dkwX6_gate_6 : List UInt8 := [159, 0, 7, 4, 167, 0, 4, 3, 7, 182, 0, 134, 42, 3, 44, 180, 0, 191, 4, 100, 182, 0, 169]
abbrev dktX6_gate_6 : List UInt8 := dkwX6_gate_6 ++ dktX6_gate_7
def dkwX6_gate_5 : List UInt8 := [180, 0, 42, 46, 154, 0, 7, 4, 167, 0, 4, 3, 5, 182, 0, 134, 42, 21, 5, 42, 180, 0, 42]
abbrev dktX6_gate_5 : List UInt8 := dkwX6_gate_5 ++ dktX6_gate_6
def dkwX6_gate_4 : List UInt8 := [54, 5, 42, 3, 44, 180, 0, 191, 4, 100, 182, 0, 138, 42, 44, 180, 0, 199, 21, 5, 50, 42]
abbrev dktX6_gate_4 : List UInt8 := dkwX6_gate_4 ++ dktX6_gate_5
def dkwX6_gate_3 : List UInt8 := [162, 0, 7, 4, 167, 0, 4, 3, 8, 182, 0, 134, 42, 3, 44, 180, 0, 191, 4, 100, 182, 0, 169]
abbrev dktX6_gate_3 : List UInt8 := dkwX6_gate_3 ++ dktX6_gate_4
def dkwX6_gate_2 : List UInt8 := [42, 180, 0, 42, 2, 159, 0, 162, 42, 3, 44, 180, 0, 191, 4, 100, 182, 0, 138, 42, 21, 4, 16, 12]
abbrev dktX6_gate_2 : List UInt8 := dkwX6_gate_2 ++ dktX6_gate_3
def dkwX6_gate_1 : List UInt8 := [182, 0, 169, 183, 0, 188, 77, 42, 4, 7, 44, 180, 0, 191, 184, 0, 194, 182, 0, 169, 62, 3, 54, 4]
abbrev dktX6_gate_1 : List UInt8 := dkwX6_gate_1 ++ dktX6_gate_2
def dkwX6_gate_0 : List UInt8 := [42, 42, 180, 0, 18, 180, 0, 161, 182, 0, 165, 76, 187, 0, 186, 89, 42, 180, 0, 18, 42, 4, 16, 8]
abbrev dktX6_gate_0 : List UInt8 := dkwX6_gate_0 ++ dktX6_gate_1
theorem dksX6_gate_0 : cX6_gate.data.toList.drop 0 = dktX6_gate_0 := by decide +kernel
theorem dksX6_gate_1 : cX6_gate.data.toList.drop 24 = dktX6_gate_1 := dk_seg dksX6_gate_0 24 rfl rfl
theorem dksX6_gate_2 : cX6_gate.data.toList.drop 48 = dktX6_gate_2 := dk_seg dksX6_gate_1 24 rfl rfl
theorem dksX6_gate_3 : cX6_gate.data.toList.drop 72 = dktX6_gate_3 := dk_seg dksX6_gate_2 24 rfl rfl
theorem dksX6_gate_4 : cX6_gate.data.toList.drop 95 = dktX6_gate_4 := dk_seg dksX6_gate_3 23 rfl rfl
theorem dksX6_gate_5 : cX6_gate.data.toList.drop 117 = dktX6_gate_5 := dk_seg dksX6_gate_4 22 rfl rfl
theorem dksX6_gate_6 : cX6_gate.data.toList.drop 140 = dktX6_gate_6 := dk_seg dksX6_gate_5 23 rfl rfl
theorem dksX6_gate_7 : cX6_gate.data.toList.drop 163 = dktX6_gate_7 := dk_seg dksX6_gate_6 23 rfl rfl
theorem dksX6_gate_8 : cX6_gate.data.toList.drop 185 = dktX6_gate_8 := dk_seg dksX6_gate_7 22 rfl rfl
theorem dksX6_gate_9 : cX6_gate.data.toList.drop 209 = dktX6_gate_9 := dk_seg dksX6_gate_8 24 rfl rfl
theorem dksX6_gate_10 : cX6_gate.data.toList.drop 231 = dktX6_gate_10 := dk_seg dksX6_gate_9 22 rfl rfl
theorem dX6_gate_0 : decode cX6_gate 0 = .ok (.aload_n 0, 1) := dk_42 (dk_at dksX6_gate_0 0 rfl rfl)
theorem dX6_gate_1 : decode cX6_gate 1 = .ok (.aload_n 0, 1) := dk_42 (dk_at dksX6_gate_0 1 rfl rfl)
theorem dX6_gate_2 : decode cX6_gate 2 = .ok (.getfield 18, 3) := dk_180 0 18 (dk_at dksX6_gate_0 2 rfl rfl)
theorem dX6_gate_5 : decode cX6_gate 5 = .ok (.getfield 161, 3) := dk_180 0 161 (dk_at dksX6_gate_0 5 rfl rfl)
theorem dX6_gate_8 : decode cX6_gate 8 = .ok (.invokevirtual 165, 3) := dk_182 0 165 (dk_at dksX6_gate_0 8 rfl rfl)
theorem dX6_gate_11 : decode cX6_gate 11 = .ok (.astore_n 1, 1) := dk_76 (dk_at dksX6_gate_0 11 rfl rfl)
theorem dX6_gate_12 : decode cX6_gate 12 = .ok (.new 186, 3) := dk_187 0 186 (dk_at dksX6_gate_0 12 rfl rfl)
theorem dX6_gate_15 : decode cX6_gate 15 = .ok (.dup, 1) := dk_89 (dk_at dksX6_gate_0 15 rfl rfl)
theorem dX6_gate_16 : decode cX6_gate 16 = .ok (.aload_n 0, 1) := dk_42 (dk_at dksX6_gate_0 16 rfl rfl)
theorem dX6_gate_17 : decode cX6_gate 17 = .ok (.getfield 18, 3) := dk_180 0 18 (dk_at dksX6_gate_0 17 rfl rfl)
theorem dX6_gate_20 : decode cX6_gate 20 = .ok (.aload_n 0, 1) := dk_42 (dk_at dksX6_gate_0 20 rfl rfl)
theorem dX6_gate_21 : decode cX6_gate 21 = .ok (.iconst 1, 1) := dk_4 (dk_at dksX6_gate_0 21 rfl rfl)
theorem dX6_gate_22 : decode cX6_gate 22 = .ok (.bipush 8, 2) := dk_16 8 (dk_at dksX6_gate_0 22 rfl rfl)
theorem dX6_gate_24 : decode cX6_gate 24 = .ok (.invokevirtual 169, 3) := dk_182 0 169 (dk_at dksX6_gate_1 0 rfl rfl)
theorem dX6_gate_27 : decode cX6_gate 27 = .ok (.invokespecial 188, 3) := dk_183 0 188 (dk_at dksX6_gate_1 3 rfl rfl)
theorem dX6_gate_30 : decode cX6_gate 30 = .ok (.astore_n 2, 1) := dk_77 (dk_at dksX6_gate_1 6 rfl rfl)
theorem dX6_gate_31 : decode cX6_gate 31 = .ok (.aload_n 0, 1) := dk_42 (dk_at dksX6_gate_1 7 rfl rfl)
theorem dX6_gate_32 : decode cX6_gate 32 = .ok (.iconst 1, 1) := dk_4 (dk_at dksX6_gate_1 8 rfl rfl)
theorem dX6_gate_33 : decode cX6_gate 33 = .ok (.iconst 4, 1) := dk_7 (dk_at dksX6_gate_1 9 rfl rfl)
theorem dX6_gate_34 : decode cX6_gate 34 = .ok (.aload_n 2, 1) := dk_44 (dk_at dksX6_gate_1 10 rfl rfl)
theorem dX6_gate_35 : decode cX6_gate 35 = .ok (.getfield 191, 3) := dk_180 0 191 (dk_at dksX6_gate_1 11 rfl rfl)
theorem dX6_gate_38 : decode cX6_gate 38 = .ok (.invokestatic 194, 3) := dk_184 0 194 (dk_at dksX6_gate_1 14 rfl rfl)
theorem dX6_gate_41 : decode cX6_gate 41 = .ok (.invokevirtual 169, 3) := dk_182 0 169 (dk_at dksX6_gate_1 17 rfl rfl)
theorem dX6_gate_44 : decode cX6_gate 44 = .ok (.istore_n 3, 1) := dk_62 (dk_at dksX6_gate_1 20 rfl rfl)
theorem dX6_gate_45 : decode cX6_gate 45 = .ok (.iconst 0, 1) := dk_3 (dk_at dksX6_gate_1 21 rfl rfl)
theorem dX6_gate_46 : decode cX6_gate 46 = .ok (.istore 4, 2) := dk_54 4 (dk_at dksX6_gate_1 22 rfl rfl)
theorem dX6_gate_48 : decode cX6_gate 48 = .ok (.aload_n 0, 1) := dk_42 (dk_at dksX6_gate_2 0 rfl rfl)
theorem dX6_gate_49 : decode cX6_gate 49 = .ok (.getfield 42, 3) := dk_180 0 42 (dk_at dksX6_gate_2 1 rfl rfl)
theorem dX6_gate_52 : decode cX6_gate 52 = .ok (.iconst (-1), 1) := dk_2 (dk_at dksX6_gate_2 4 rfl rfl)
theorem dX6_gate_53 : decode cX6_gate 53 = .ok (.if_icmp .eq 162, 3) := dk_159 0 162 (dk_at dksX6_gate_2 5 rfl rfl)
theorem dX6_gate_56 : decode cX6_gate 56 = .ok (.aload_n 0, 1) := dk_42 (dk_at dksX6_gate_2 8 rfl rfl)
theorem dX6_gate_57 : decode cX6_gate 57 = .ok (.iconst 0, 1) := dk_3 (dk_at dksX6_gate_2 9 rfl rfl)
theorem dX6_gate_58 : decode cX6_gate 58 = .ok (.aload_n 2, 1) := dk_44 (dk_at dksX6_gate_2 10 rfl rfl)
theorem dX6_gate_59 : decode cX6_gate 59 = .ok (.getfield 191, 3) := dk_180 0 191 (dk_at dksX6_gate_2 11 rfl rfl)
theorem dX6_gate_62 : decode cX6_gate 62 = .ok (.iconst 1, 1) := dk_4 (dk_at dksX6_gate_2 14 rfl rfl)
theorem dX6_gate_63 : decode cX6_gate 63 = .ok (.isub, 1) := dk_100 (dk_at dksX6_gate_2 15 rfl rfl)
theorem dX6_gate_64 : decode cX6_gate 64 = .ok (.invokevirtual 138, 3) := dk_182 0 138 (dk_at dksX6_gate_2 16 rfl rfl)
theorem dX6_gate_67 : decode cX6_gate 67 = .ok (.aload_n 0, 1) := dk_42 (dk_at dksX6_gate_2 19 rfl rfl)
theorem dX6_gate_68 : decode cX6_gate 68 = .ok (.iload 4, 2) := dk_21 4 (dk_at dksX6_gate_2 20 rfl rfl)
theorem dX6_gate_70 : decode cX6_gate 70 = .ok (.bipush 12, 2) := dk_16 12 (dk_at dksX6_gate_2 22 rfl rfl)
theorem dX6_gate_72 : decode cX6_gate 72 = .ok (.if_icmp .ge 7, 3) := dk_162 0 7 (dk_at dksX6_gate_3 0 rfl rfl)
theorem dX6_gate_75 : decode cX6_gate 75 = .ok (.iconst 1, 1) := dk_4 (dk_at dksX6_gate_3 3 rfl rfl)
theorem dX6_gate_76 : decode cX6_gate 76 = .ok (.goto 4, 3) := dk_167 0 4 (dk_at dksX6_gate_3 4 rfl rfl)
theorem dX6_gate_79 : decode cX6_gate 79 = .ok (.iconst 0, 1) := dk_3 (dk_at dksX6_gate_3 7 rfl rfl)
theorem dX6_gate_80 : decode cX6_gate 80 = .ok (.iconst 5, 1) := dk_8 (dk_at dksX6_gate_3 8 rfl rfl)
theorem dX6_gate_81 : decode cX6_gate 81 = .ok (.invokevirtual 134, 3) := dk_182 0 134 (dk_at dksX6_gate_3 9 rfl rfl)
theorem dX6_gate_84 : decode cX6_gate 84 = .ok (.aload_n 0, 1) := dk_42 (dk_at dksX6_gate_3 12 rfl rfl)
theorem dX6_gate_85 : decode cX6_gate 85 = .ok (.iconst 0, 1) := dk_3 (dk_at dksX6_gate_3 13 rfl rfl)
theorem dX6_gate_86 : decode cX6_gate 86 = .ok (.aload_n 2, 1) := dk_44 (dk_at dksX6_gate_3 14 rfl rfl)
theorem dX6_gate_87 : decode cX6_gate 87 = .ok (.getfield 191, 3) := dk_180 0 191 (dk_at dksX6_gate_3 15 rfl rfl)
theorem dX6_gate_90 : decode cX6_gate 90 = .ok (.iconst 1, 1) := dk_4 (dk_at dksX6_gate_3 18 rfl rfl)
theorem dX6_gate_91 : decode cX6_gate 91 = .ok (.isub, 1) := dk_100 (dk_at dksX6_gate_3 19 rfl rfl)
theorem dX6_gate_92 : decode cX6_gate 92 = .ok (.invokevirtual 169, 3) := dk_182 0 169 (dk_at dksX6_gate_3 20 rfl rfl)
theorem dX6_gate_95 : decode cX6_gate 95 = .ok (.istore 5, 2) := dk_54 5 (dk_at dksX6_gate_4 0 rfl rfl)
theorem dX6_gate_97 : decode cX6_gate 97 = .ok (.aload_n 0, 1) := dk_42 (dk_at dksX6_gate_4 2 rfl rfl)
theorem dX6_gate_98 : decode cX6_gate 98 = .ok (.iconst 0, 1) := dk_3 (dk_at dksX6_gate_4 3 rfl rfl)
theorem dX6_gate_99 : decode cX6_gate 99 = .ok (.aload_n 2, 1) := dk_44 (dk_at dksX6_gate_4 4 rfl rfl)
theorem dX6_gate_100 : decode cX6_gate 100 = .ok (.getfield 191, 3) := dk_180 0 191 (dk_at dksX6_gate_4 5 rfl rfl)
theorem dX6_gate_103 : decode cX6_gate 103 = .ok (.iconst 1, 1) := dk_4 (dk_at dksX6_gate_4 8 rfl rfl)
theorem dX6_gate_104 : decode cX6_gate 104 = .ok (.isub, 1) := dk_100 (dk_at dksX6_gate_4 9 rfl rfl)
theorem dX6_gate_105 : decode cX6_gate 105 = .ok (.invokevirtual 138, 3) := dk_182 0 138 (dk_at dksX6_gate_4 10 rfl rfl)
theorem dX6_gate_108 : decode cX6_gate 108 = .ok (.aload_n 0, 1) := dk_42 (dk_at dksX6_gate_4 13 rfl rfl)
theorem dX6_gate_109 : decode cX6_gate 109 = .ok (.aload_n 2, 1) := dk_44 (dk_at dksX6_gate_4 14 rfl rfl)
theorem dX6_gate_110 : decode cX6_gate 110 = .ok (.getfield 199, 3) := dk_180 0 199 (dk_at dksX6_gate_4 15 rfl rfl)
theorem dX6_gate_113 : decode cX6_gate 113 = .ok (.iload 5, 2) := dk_21 5 (dk_at dksX6_gate_4 18 rfl rfl)
theorem dX6_gate_115 : decode cX6_gate 115 = .ok (.aaload, 1) := dk_50 (dk_at dksX6_gate_4 20 rfl rfl)
theorem dX6_gate_116 : decode cX6_gate 116 = .ok (.aload_n 0, 1) := dk_42 (dk_at dksX6_gate_4 21 rfl rfl)
theorem dX6_gate_117 : decode cX6_gate 117 = .ok (.getfield 42, 3) := dk_180 0 42 (dk_at dksX6_gate_5 0 rfl rfl)
theorem dX6_gate_120 : decode cX6_gate 120 = .ok (.iaload, 1) := dk_46 (dk_at dksX6_gate_5 3 rfl rfl)
theorem dX6_gate_121 : decode cX6_gate 121 = .ok (.ifCond .ne 7, 3) := dk_154 0 7 (dk_at dksX6_gate_5 4 rfl rfl)
theorem dX6_gate_124 : decode cX6_gate 124 = .ok (.iconst 1, 1) := dk_4 (dk_at dksX6_gate_5 7 rfl rfl)
theorem dX6_gate_125 : decode cX6_gate 125 = .ok (.goto 4, 3) := dk_167 0 4 (dk_at dksX6_gate_5 8 rfl rfl)
theorem dX6_gate_128 : decode cX6_gate 128 = .ok (.iconst 0, 1) := dk_3 (dk_at dksX6_gate_5 11 rfl rfl)
theorem dX6_gate_129 : decode cX6_gate 129 = .ok (.iconst 2, 1) := dk_5 (dk_at dksX6_gate_5 12 rfl rfl)
theorem dX6_gate_130 : decode cX6_gate 130 = .ok (.invokevirtual 134, 3) := dk_182 0 134 (dk_at dksX6_gate_5 13 rfl rfl)
theorem dX6_gate_133 : decode cX6_gate 133 = .ok (.aload_n 0, 1) := dk_42 (dk_at dksX6_gate_5 16 rfl rfl)
theorem dX6_gate_134 : decode cX6_gate 134 = .ok (.iload 5, 2) := dk_21 5 (dk_at dksX6_gate_5 17 rfl rfl)
theorem dX6_gate_136 : decode cX6_gate 136 = .ok (.aload_n 0, 1) := dk_42 (dk_at dksX6_gate_5 19 rfl rfl)
theorem dX6_gate_137 : decode cX6_gate 137 = .ok (.getfield 42, 3) := dk_180 0 42 (dk_at dksX6_gate_5 20 rfl rfl)
theorem dX6_gate_140 : decode cX6_gate 140 = .ok (.if_icmp .eq 7, 3) := dk_159 0 7 (dk_at dksX6_gate_6 0 rfl rfl)
theorem dX6_gate_143 : decode cX6_gate 143 = .ok (.iconst 1, 1) := dk_4 (dk_at dksX6_gate_6 3 rfl rfl)
theorem dX6_gate_144 : decode cX6_gate 144 = .ok (.goto 4, 3) := dk_167 0 4 (dk_at dksX6_gate_6 4 rfl rfl)
theorem dX6_gate_147 : decode cX6_gate 147 = .ok (.iconst 0, 1) := dk_3 (dk_at dksX6_gate_6 7 rfl rfl)
theorem dX6_gate_148 : decode cX6_gate 148 = .ok (.iconst 4, 1) := dk_7 (dk_at dksX6_gate_6 8 rfl rfl)
theorem dX6_gate_149 : decode cX6_gate 149 = .ok (.invokevirtual 134, 3) := dk_182 0 134 (dk_at dksX6_gate_6 9 rfl rfl)
theorem dX6_gate_152 : decode cX6_gate 152 = .ok (.aload_n 0, 1) := dk_42 (dk_at dksX6_gate_6 12 rfl rfl)
theorem dX6_gate_153 : decode cX6_gate 153 = .ok (.iconst 0, 1) := dk_3 (dk_at dksX6_gate_6 13 rfl rfl)
theorem dX6_gate_154 : decode cX6_gate 154 = .ok (.aload_n 2, 1) := dk_44 (dk_at dksX6_gate_6 14 rfl rfl)
theorem dX6_gate_155 : decode cX6_gate 155 = .ok (.getfield 191, 3) := dk_180 0 191 (dk_at dksX6_gate_6 15 rfl rfl)
theorem dX6_gate_158 : decode cX6_gate 158 = .ok (.iconst 1, 1) := dk_4 (dk_at dksX6_gate_6 18 rfl rfl)
theorem dX6_gate_159 : decode cX6_gate 159 = .ok (.isub, 1) := dk_100 (dk_at dksX6_gate_6 19 rfl rfl)
theorem dX6_gate_160 : decode cX6_gate 160 = .ok (.invokevirtual 169, 3) := dk_182 0 169 (dk_at dksX6_gate_6 20 rfl rfl)
theorem dX6_gate_163 : decode cX6_gate 163 = .ok (.istore 6, 2) := dk_54 6 (dk_at dksX6_gate_7 0 rfl rfl)
theorem dX6_gate_165 : decode cX6_gate 165 = .ok (.aload_n 2, 1) := dk_44 (dk_at dksX6_gate_7 2 rfl rfl)
theorem dX6_gate_166 : decode cX6_gate 166 = .ok (.getfield 199, 3) := dk_180 0 199 (dk_at dksX6_gate_7 3 rfl rfl)
theorem dX6_gate_169 : decode cX6_gate 169 = .ok (.iload 5, 2) := dk_21 5 (dk_at dksX6_gate_7 6 rfl rfl)
theorem dX6_gate_171 : decode cX6_gate 171 = .ok (.aaload, 1) := dk_50 (dk_at dksX6_gate_7 8 rfl rfl)
theorem dX6_gate_172 : decode cX6_gate 172 = .ok (.iload 6, 2) := dk_21 6 (dk_at dksX6_gate_7 9 rfl rfl)
theorem dX6_gate_174 : decode cX6_gate 174 = .ok (.aload_n 0, 1) := dk_42 (dk_at dksX6_gate_7 11 rfl rfl)
theorem dX6_gate_175 : decode cX6_gate 175 = .ok (.iconst 1, 1) := dk_4 (dk_at dksX6_gate_7 12 rfl rfl)
theorem dX6_gate_176 : decode cX6_gate 176 = .ok (.aload_n 0, 1) := dk_42 (dk_at dksX6_gate_7 13 rfl rfl)
theorem dX6_gate_177 : decode cX6_gate 177 = .ok (.getfield 18, 3) := dk_180 0 18 (dk_at dksX6_gate_7 14 rfl rfl)
theorem dX6_gate_180 : decode cX6_gate 180 = .ok (.getfield 172, 3) := dk_180 0 172 (dk_at dksX6_gate_7 17 rfl rfl)
theorem dX6_gate_183 : decode cX6_gate 183 = .ok (.iconst 1, 1) := dk_4 (dk_at dksX6_gate_7 20 rfl rfl)
theorem dX6_gate_184 : decode cX6_gate 184 = .ok (.isub, 1) := dk_100 (dk_at dksX6_gate_7 21 rfl rfl)
theorem dX6_gate_185 : decode cX6_gate 185 = .ok (.invokevirtual 169, 3) := dk_182 0 169 (dk_at dksX6_gate_8 0 rfl rfl)
theorem dX6_gate_188 : decode cX6_gate 188 = .ok (.iastore, 1) := dk_79 (dk_at dksX6_gate_8 3 rfl rfl)
theorem dX6_gate_189 : decode cX6_gate 189 = .ok (.aload_n 2, 1) := dk_44 (dk_at dksX6_gate_8 4 rfl rfl)
theorem dX6_gate_190 : decode cX6_gate 190 = .ok (.getfield 199, 3) := dk_180 0 199 (dk_at dksX6_gate_8 5 rfl rfl)
theorem dX6_gate_193 : decode cX6_gate 193 = .ok (.iload 6, 2) := dk_21 6 (dk_at dksX6_gate_8 8 rfl rfl)
theorem dX6_gate_195 : decode cX6_gate 195 = .ok (.aaload, 1) := dk_50 (dk_at dksX6_gate_8 10 rfl rfl)
theorem dX6_gate_196 : decode cX6_gate 196 = .ok (.iload 5, 2) := dk_21 5 (dk_at dksX6_gate_8 11 rfl rfl)
theorem dX6_gate_198 : decode cX6_gate 198 = .ok (.aload_n 2, 1) := dk_44 (dk_at dksX6_gate_8 13 rfl rfl)
theorem dX6_gate_199 : decode cX6_gate 199 = .ok (.getfield 199, 3) := dk_180 0 199 (dk_at dksX6_gate_8 14 rfl rfl)
theorem dX6_gate_202 : decode cX6_gate 202 = .ok (.iload 5, 2) := dk_21 5 (dk_at dksX6_gate_8 17 rfl rfl)
theorem dX6_gate_204 : decode cX6_gate 204 = .ok (.aaload, 1) := dk_50 (dk_at dksX6_gate_8 19 rfl rfl)
theorem dX6_gate_205 : decode cX6_gate 205 = .ok (.iload 6, 2) := dk_21 6 (dk_at dksX6_gate_8 20 rfl rfl)
theorem dX6_gate_207 : decode cX6_gate 207 = .ok (.iaload, 1) := dk_46 (dk_at dksX6_gate_8 22 rfl rfl)
theorem dX6_gate_208 : decode cX6_gate 208 = .ok (.iastore, 1) := dk_79 (dk_at dksX6_gate_8 23 rfl rfl)
theorem dX6_gate_209 : decode cX6_gate 209 = .ok (.iinc 4 1, 3) := dk_132 4 1 (dk_at dksX6_gate_9 0 rfl rfl)
theorem dX6_gate_212 : decode cX6_gate 212 = .ok (.goto (-164), 3) := dk_167 255 92 (dk_at dksX6_gate_9 3 rfl rfl)
theorem dX6_gate_215 : decode cX6_gate 215 = .ok (.aload_n 0, 1) := dk_42 (dk_at dksX6_gate_9 6 rfl rfl)
theorem dX6_gate_216 : decode cX6_gate 216 = .ok (.getfield 18, 3) := dk_180 0 18 (dk_at dksX6_gate_9 7 rfl rfl)
theorem dX6_gate_219 : decode cX6_gate 219 = .ok (.getfield 161, 3) := dk_180 0 161 (dk_at dksX6_gate_9 10 rfl rfl)
theorem dX6_gate_222 : decode cX6_gate 222 = .ok (.new 175, 3) := dk_187 0 175 (dk_at dksX6_gate_9 13 rfl rfl)
theorem dX6_gate_225 : decode cX6_gate 225 = .ok (.dup, 1) := dk_89 (dk_at dksX6_gate_9 16 rfl rfl)
theorem dX6_gate_226 : decode cX6_gate 226 = .ok (.aload_n 1, 1) := dk_43 (dk_at dksX6_gate_9 17 rfl rfl)
theorem dX6_gate_227 : decode cX6_gate 227 = .ok (.aload_n 0, 1) := dk_42 (dk_at dksX6_gate_9 18 rfl rfl)
theorem dX6_gate_228 : decode cX6_gate 228 = .ok (.getfield 18, 3) := dk_180 0 18 (dk_at dksX6_gate_9 19 rfl rfl)
theorem dX6_gate_231 : decode cX6_gate 231 = .ok (.getfield 161, 3) := dk_180 0 161 (dk_at dksX6_gate_10 0 rfl rfl)
theorem dX6_gate_234 : decode cX6_gate 234 = .ok (.invokevirtual 177, 3) := dk_182 0 177 (dk_at dksX6_gate_10 3 rfl rfl)
theorem dX6_gate_237 : decode cX6_gate 237 = .ok (.iload_n 3, 1) := dk_29 (dk_at dksX6_gate_10 6 rfl rfl)
theorem dX6_gate_238 : decode cX6_gate 238 = .ok (.aload_n 2, 1) := dk_44 (dk_at dksX6_gate_10 7 rfl rfl)
theorem dX6_gate_239 : decode cX6_gate 239 = .ok (.iload_n 3, 1) := dk_29 (dk_at dksX6_gate_10 8 rfl rfl)
theorem dX6_gate_240 : decode cX6_gate 240 = .ok (.invokevirtual 203, 3) := dk_182 0 203 (dk_at dksX6_gate_10 9 rfl rfl)
theorem dX6_gate_243 : decode cX6_gate 243 = .ok (.invokespecial 179, 3) := dk_183 0 179 (dk_at dksX6_gate_10 12 rfl rfl)
theorem dX6_gate_246 : decode cX6_gate 246 = .ok (.invokevirtual 182, 3) := dk_182 0 182 (dk_at dksX6_gate_10 15 rfl rfl)
theorem dX6_gate_249 : decode cX6_gate 249 = .ok (.return_, 1) := dk_177 (dk_at dksX6_gate_10 18 rfl rfl)
def dkwX6_base_7 : List UInt8 := [182, 0, 182, 177]
abbrev dktX6_base_7 : List UInt8 := dkwX6_base_7 ++ []
def dkwX6_base_6 : List UInt8 := [21, 4, 79, 89, 6, 42, 3, 42, 180, 0, 18, 180, 0, 172, 4, 100, 182, 0, 169, 79, 183, 0, 216]
abbrev dktX6_base_6 : List UInt8 := dkwX6_base_6 ++ dktX6_base_7
def dkwX6_base_5 : List UInt8 := [42, 180, 0, 18, 180, 0, 207, 182, 0, 177, 7, 188, 10, 89, 3, 28, 79, 89, 4, 29, 79, 89, 5]
abbrev dktX6_base_5 : List UInt8 := dkwX6_base_5 ++ dktX6_base_6
def dkwX6_base_4 : List UInt8 := [153, 0, 7, 4, 167, 0, 4, 3, 7, 182, 0, 134, 42, 180, 0, 18, 180, 0, 207, 187, 0, 214, 89, 43]
abbrev dktX6_base_4 : List UInt8 := dkwX6_base_4 ++ dktX6_base_5
def dkwX6_base_3 : List UInt8 := [182, 0, 138, 42, 42, 180, 0, 18, 28, 42, 180, 0, 42, 104, 29, 21, 4, 104, 100, 133, 182, 0, 210]
abbrev dktX6_base_3 : List UInt8 := dkwX6_base_3 ++ dktX6_base_4
def dkwX6_base_2 : List UInt8 := [180, 0, 18, 180, 0, 172, 4, 100, 182, 0, 169, 54, 4, 42, 3, 42, 180, 0, 18, 180, 0, 172, 4, 100]
abbrev dktX6_base_2 : List UInt8 := dkwX6_base_2 ++ dktX6_base_3
def dkwX6_base_1 : List UInt8 := [182, 0, 169, 61, 42, 3, 42, 180, 0, 18, 180, 0, 172, 4, 100, 182, 0, 169, 62, 42, 3, 42]
abbrev dktX6_base_1 : List UInt8 := dkwX6_base_1 ++ dktX6_base_2
def dkwX6_base_0 : List UInt8 := [42, 42, 180, 0, 18, 180, 0, 207, 182, 0, 165, 76, 42, 3, 42, 180, 0, 18, 180, 0, 172, 4, 100]
abbrev dktX6_base_0 : List UInt8 := dkwX6_base_0 ++ dktX6_base_1
theorem dksX6_base_0 : cX6_base.data.toList.drop 0 = dktX6_base_0 := by decide +kernel
theorem dksX6_base_1 : cX6_base.data.toList.drop 23 = dktX6_base_1 := dk_seg dksX6_base_0 23 rfl rfl
theorem dksX6_base_2 : cX6_base.data.toList.drop 45 = dktX6_base_2 := dk_seg dksX6_base_1 22 rfl rfl
theorem dksX6_base_3 : cX6_base.data.toList.drop 69 = dktX6_base_3 := dk_seg dksX6_base_2 24 rfl rfl
theorem dksX6_base_4 : cX6_base.data.toList.drop 92 = dktX6_base_4 := dk_seg dksX6_base_3 23 rfl rfl
theorem dksX6_base_5 : cX6_base.data.toList.drop 116 = dktX6_base_5 := dk_seg dksX6_base_4 24 rfl rfl
theorem dksX6_base_6 : cX6_base.data.toList.drop 139 = dktX6_base_6 := dk_seg dksX6_base_5 23 rfl rfl
theorem dksX6_base_7 : cX6_base.data.toList.drop 162 = dktX6_base_7 := dk_seg dksX6_base_6 23 rfl rfl
theorem dX6_base_0 : decode cX6_base 0 = .ok (.aload_n 0, 1) := dk_42 (dk_at dksX6_base_0 0 rfl rfl)
theorem dX6_base_1 : decode cX6_base 1 = .ok (.aload_n 0, 1) := dk_42 (dk_at dksX6_base_0 1 rfl rfl)
theorem dX6_base_2 : decode cX6_base 2 = .ok (.getfield 18, 3) := dk_180 0 18 (dk_at dksX6_base_0 2 rfl rfl)
theorem dX6_base_5 : decode cX6_base 5 = .ok (.getfield 207, 3) := dk_180 0 207 (dk_at dksX6_base_0 5 rfl rfl)
theorem dX6_base_8 : decode cX6_base 8 = .ok (.invokevirtual 165, 3) := dk_182 0 165 (dk_at dksX6_base_0 8 rfl rfl)
theorem dX6_base_11 : decode cX6_base 11 = .ok (.astore_n 1, 1) := dk_76 (dk_at dksX6_base_0 11 rfl rfl)
theorem dX6_base_12 : decode cX6_base 12 = .ok (.aload_n 0, 1) := dk_42 (dk_at dksX6_base_0 12 rfl rfl)
theorem dX6_base_13 : decode cX6_base 13 = .ok (.iconst 0, 1) := dk_3 (dk_at dksX6_base_0 13 rfl rfl)
theorem dX6_base_14 : decode cX6_base 14 = .ok (.aload_n 0, 1) := dk_42 (dk_at dksX6_base_0 14 rfl rfl)
theorem dX6_base_15 : decode cX6_base 15 = .ok (.getfield 18, 3) := dk_180 0 18 (dk_at dksX6_base_0 15 rfl rfl)
theorem dX6_base_18 : decode cX6_base 18 = .ok (.getfield 172, 3) := dk_180 0 172 (dk_at dksX6_base_0 18 rfl rfl)
theorem dX6_base_21 : decode cX6_base 21 = .ok (.iconst 1, 1) := dk_4 (dk_at dksX6_base_0 21 rfl rfl)
theorem dX6_base_22 : decode cX6_base 22 = .ok (.isub, 1) := dk_100 (dk_at dksX6_base_0 22 rfl rfl)
theorem dX6_base_23 : decode cX6_base 23 = .ok (.invokevirtual 169, 3) := dk_182 0 169 (dk_at dksX6_base_1 0 rfl rfl)
theorem dX6_base_26 : decode cX6_base 26 = .ok (.istore_n 2, 1) := dk_61 (dk_at dksX6_base_1 3 rfl rfl)
theorem dX6_base_27 : decode cX6_base 27 = .ok (.aload_n 0, 1) := dk_42 (dk_at dksX6_base_1 4 rfl rfl)
theorem dX6_base_28 : decode cX6_base 28 = .ok (.iconst 0, 1) := dk_3 (dk_at dksX6_base_1 5 rfl rfl)
theorem dX6_base_29 : decode cX6_base 29 = .ok (.aload_n 0, 1) := dk_42 (dk_at dksX6_base_1 6 rfl rfl)
theorem dX6_base_30 : decode cX6_base 30 = .ok (.getfield 18, 3) := dk_180 0 18 (dk_at dksX6_base_1 7 rfl rfl)
theorem dX6_base_33 : decode cX6_base 33 = .ok (.getfield 172, 3) := dk_180 0 172 (dk_at dksX6_base_1 10 rfl rfl)
theorem dX6_base_36 : decode cX6_base 36 = .ok (.iconst 1, 1) := dk_4 (dk_at dksX6_base_1 13 rfl rfl)
theorem dX6_base_37 : decode cX6_base 37 = .ok (.isub, 1) := dk_100 (dk_at dksX6_base_1 14 rfl rfl)
theorem dX6_base_38 : decode cX6_base 38 = .ok (.invokevirtual 169, 3) := dk_182 0 169 (dk_at dksX6_base_1 15 rfl rfl)
theorem dX6_base_41 : decode cX6_base 41 = .ok (.istore_n 3, 1) := dk_62 (dk_at dksX6_base_1 18 rfl rfl)
theorem dX6_base_42 : decode cX6_base 42 = .ok (.aload_n 0, 1) := dk_42 (dk_at dksX6_base_1 19 rfl rfl)
theorem dX6_base_43 : decode cX6_base 43 = .ok (.iconst 0, 1) := dk_3 (dk_at dksX6_base_1 20 rfl rfl)
theorem dX6_base_44 : decode cX6_base 44 = .ok (.aload_n 0, 1) := dk_42 (dk_at dksX6_base_1 21 rfl rfl)
theorem dX6_base_45 : decode cX6_base 45 = .ok (.getfield 18, 3) := dk_180 0 18 (dk_at dksX6_base_2 0 rfl rfl)
theorem dX6_base_48 : decode cX6_base 48 = .ok (.getfield 172, 3) := dk_180 0 172 (dk_at dksX6_base_2 3 rfl rfl)
theorem dX6_base_51 : decode cX6_base 51 = .ok (.iconst 1, 1) := dk_4 (dk_at dksX6_base_2 6 rfl rfl)
theorem dX6_base_52 : decode cX6_base 52 = .ok (.isub, 1) := dk_100 (dk_at dksX6_base_2 7 rfl rfl)
theorem dX6_base_53 : decode cX6_base 53 = .ok (.invokevirtual 169, 3) := dk_182 0 169 (dk_at dksX6_base_2 8 rfl rfl)
theorem dX6_base_56 : decode cX6_base 56 = .ok (.istore 4, 2) := dk_54 4 (dk_at dksX6_base_2 11 rfl rfl)
theorem dX6_base_58 : decode cX6_base 58 = .ok (.aload_n 0, 1) := dk_42 (dk_at dksX6_base_2 13 rfl rfl)
theorem dX6_base_59 : decode cX6_base 59 = .ok (.iconst 0, 1) := dk_3 (dk_at dksX6_base_2 14 rfl rfl)
theorem dX6_base_60 : decode cX6_base 60 = .ok (.aload_n 0, 1) := dk_42 (dk_at dksX6_base_2 15 rfl rfl)
theorem dX6_base_61 : decode cX6_base 61 = .ok (.getfield 18, 3) := dk_180 0 18 (dk_at dksX6_base_2 16 rfl rfl)
theorem dX6_base_64 : decode cX6_base 64 = .ok (.getfield 172, 3) := dk_180 0 172 (dk_at dksX6_base_2 19 rfl rfl)
theorem dX6_base_67 : decode cX6_base 67 = .ok (.iconst 1, 1) := dk_4 (dk_at dksX6_base_2 22 rfl rfl)
theorem dX6_base_68 : decode cX6_base 68 = .ok (.isub, 1) := dk_100 (dk_at dksX6_base_2 23 rfl rfl)
theorem dX6_base_69 : decode cX6_base 69 = .ok (.invokevirtual 138, 3) := dk_182 0 138 (dk_at dksX6_base_3 0 rfl rfl)
theorem dX6_base_72 : decode cX6_base 72 = .ok (.aload_n 0, 1) := dk_42 (dk_at dksX6_base_3 3 rfl rfl)
theorem dX6_base_73 : decode cX6_base 73 = .ok (.aload_n 0, 1) := dk_42 (dk_at dksX6_base_3 4 rfl rfl)
theorem dX6_base_74 : decode cX6_base 74 = .ok (.getfield 18, 3) := dk_180 0 18 (dk_at dksX6_base_3 5 rfl rfl)
theorem dX6_base_77 : decode cX6_base 77 = .ok (.iload_n 2, 1) := dk_28 (dk_at dksX6_base_3 8 rfl rfl)
theorem dX6_base_78 : decode cX6_base 78 = .ok (.aload_n 0, 1) := dk_42 (dk_at dksX6_base_3 9 rfl rfl)
theorem dX6_base_79 : decode cX6_base 79 = .ok (.getfield 42, 3) := dk_180 0 42 (dk_at dksX6_base_3 10 rfl rfl)
theorem dX6_base_82 : decode cX6_base 82 = .ok (.imul, 1) := dk_104 (dk_at dksX6_base_3 13 rfl rfl)
theorem dX6_base_83 : decode cX6_base 83 = .ok (.iload_n 3, 1) := dk_29 (dk_at dksX6_base_3 14 rfl rfl)
theorem dX6_base_84 : decode cX6_base 84 = .ok (.iload 4, 2) := dk_21 4 (dk_at dksX6_base_3 15 rfl rfl)
theorem dX6_base_86 : decode cX6_base 86 = .ok (.imul, 1) := dk_104 (dk_at dksX6_base_3 17 rfl rfl)
theorem dX6_base_87 : decode cX6_base 87 = .ok (.isub, 1) := dk_100 (dk_at dksX6_base_3 18 rfl rfl)
theorem dX6_base_88 : decode cX6_base 88 = .ok (.i2l, 1) := dk_133 (dk_at dksX6_base_3 19 rfl rfl)
theorem dX6_base_89 : decode cX6_base 89 = .ok (.invokevirtual 210, 3) := dk_182 0 210 (dk_at dksX6_base_3 20 rfl rfl)
theorem dX6_base_92 : decode cX6_base 92 = .ok (.ifCond .eq 7, 3) := dk_153 0 7 (dk_at dksX6_base_4 0 rfl rfl)
theorem dX6_base_95 : decode cX6_base 95 = .ok (.iconst 1, 1) := dk_4 (dk_at dksX6_base_4 3 rfl rfl)
theorem dX6_base_96 : decode cX6_base 96 = .ok (.goto 4, 3) := dk_167 0 4 (dk_at dksX6_base_4 4 rfl rfl)
theorem dX6_base_99 : decode cX6_base 99 = .ok (.iconst 0, 1) := dk_3 (dk_at dksX6_base_4 7 rfl rfl)
theorem dX6_base_100 : decode cX6_base 100 = .ok (.iconst 4, 1) := dk_7 (dk_at dksX6_base_4 8 rfl rfl)
theorem dX6_base_101 : decode cX6_base 101 = .ok (.invokevirtual 134, 3) := dk_182 0 134 (dk_at dksX6_base_4 9 rfl rfl)
theorem dX6_base_104 : decode cX6_base 104 = .ok (.aload_n 0, 1) := dk_42 (dk_at dksX6_base_4 12 rfl rfl)
theorem dX6_base_105 : decode cX6_base 105 = .ok (.getfield 18, 3) := dk_180 0 18 (dk_at dksX6_base_4 13 rfl rfl)
theorem dX6_base_108 : decode cX6_base 108 = .ok (.getfield 207, 3) := dk_180 0 207 (dk_at dksX6_base_4 16 rfl rfl)
theorem dX6_base_111 : decode cX6_base 111 = .ok (.new 214, 3) := dk_187 0 214 (dk_at dksX6_base_4 19 rfl rfl)
theorem dX6_base_114 : decode cX6_base 114 = .ok (.dup, 1) := dk_89 (dk_at dksX6_base_4 22 rfl rfl)
theorem dX6_base_115 : decode cX6_base 115 = .ok (.aload_n 1, 1) := dk_43 (dk_at dksX6_base_4 23 rfl rfl)
theorem dX6_base_116 : decode cX6_base 116 = .ok (.aload_n 0, 1) := dk_42 (dk_at dksX6_base_5 0 rfl rfl)
theorem dX6_base_117 : decode cX6_base 117 = .ok (.getfield 18, 3) := dk_180 0 18 (dk_at dksX6_base_5 1 rfl rfl)
theorem dX6_base_120 : decode cX6_base 120 = .ok (.getfield 207, 3) := dk_180 0 207 (dk_at dksX6_base_5 4 rfl rfl)
theorem dX6_base_123 : decode cX6_base 123 = .ok (.invokevirtual 177, 3) := dk_182 0 177 (dk_at dksX6_base_5 7 rfl rfl)
theorem dX6_base_126 : decode cX6_base 126 = .ok (.iconst 4, 1) := dk_7 (dk_at dksX6_base_5 10 rfl rfl)
theorem dX6_base_127 : decode cX6_base 127 = .ok (.newarray .int, 2) := dk_188_10 (dk_at dksX6_base_5 11 rfl rfl)
theorem dX6_base_129 : decode cX6_base 129 = .ok (.dup, 1) := dk_89 (dk_at dksX6_base_5 13 rfl rfl)
theorem dX6_base_130 : decode cX6_base 130 = .ok (.iconst 0, 1) := dk_3 (dk_at dksX6_base_5 14 rfl rfl)
theorem dX6_base_131 : decode cX6_base 131 = .ok (.iload_n 2, 1) := dk_28 (dk_at dksX6_base_5 15 rfl rfl)
theorem dX6_base_132 : decode cX6_base 132 = .ok (.iastore, 1) := dk_79 (dk_at dksX6_base_5 16 rfl rfl)
theorem dX6_base_133 : decode cX6_base 133 = .ok (.dup, 1) := dk_89 (dk_at dksX6_base_5 17 rfl rfl)
theorem dX6_base_134 : decode cX6_base 134 = .ok (.iconst 1, 1) := dk_4 (dk_at dksX6_base_5 18 rfl rfl)
theorem dX6_base_135 : decode cX6_base 135 = .ok (.iload_n 3, 1) := dk_29 (dk_at dksX6_base_5 19 rfl rfl)
theorem dX6_base_136 : decode cX6_base 136 = .ok (.iastore, 1) := dk_79 (dk_at dksX6_base_5 20 rfl rfl)
theorem dX6_base_137 : decode cX6_base 137 = .ok (.dup, 1) := dk_89 (dk_at dksX6_base_5 21 rfl rfl)
theorem dX6_base_138 : decode cX6_base 138 = .ok (.iconst 2, 1) := dk_5 (dk_at dksX6_base_5 22 rfl rfl)
theorem dX6_base_139 : decode cX6_base 139 = .ok (.iload 4, 2) := dk_21 4 (dk_at dksX6_base_6 0 rfl rfl)
theorem dX6_base_141 : decode cX6_base 141 = .ok (.iastore, 1) := dk_79 (dk_at dksX6_base_6 2 rfl rfl)
theorem dX6_base_142 : decode cX6_base 142 = .ok (.dup, 1) := dk_89 (dk_at dksX6_base_6 3 rfl rfl)
theorem dX6_base_143 : decode cX6_base 143 = .ok (.iconst 3, 1) := dk_6 (dk_at dksX6_base_6 4 rfl rfl)
theorem dX6_base_144 : decode cX6_base 144 = .ok (.aload_n 0, 1) := dk_42 (dk_at dksX6_base_6 5 rfl rfl)
theorem dX6_base_145 : decode cX6_base 145 = .ok (.iconst 0, 1) := dk_3 (dk_at dksX6_base_6 6 rfl rfl)
theorem dX6_base_146 : decode cX6_base 146 = .ok (.aload_n 0, 1) := dk_42 (dk_at dksX6_base_6 7 rfl rfl)
theorem dX6_base_147 : decode cX6_base 147 = .ok (.getfield 18, 3) := dk_180 0 18 (dk_at dksX6_base_6 8 rfl rfl)
theorem dX6_base_150 : decode cX6_base 150 = .ok (.getfield 172, 3) := dk_180 0 172 (dk_at dksX6_base_6 11 rfl rfl)
theorem dX6_base_153 : decode cX6_base 153 = .ok (.iconst 1, 1) := dk_4 (dk_at dksX6_base_6 14 rfl rfl)
theorem dX6_base_154 : decode cX6_base 154 = .ok (.isub, 1) := dk_100 (dk_at dksX6_base_6 15 rfl rfl)
theorem dX6_base_155 : decode cX6_base 155 = .ok (.invokevirtual 169, 3) := dk_182 0 169 (dk_at dksX6_base_6 16 rfl rfl)
theorem dX6_base_158 : decode cX6_base 158 = .ok (.iastore, 1) := dk_79 (dk_at dksX6_base_6 19 rfl rfl)
theorem dX6_base_159 : decode cX6_base 159 = .ok (.invokespecial 216, 3) := dk_183 0 216 (dk_at dksX6_base_6 20 rfl rfl)
theorem dX6_base_162 : decode cX6_base 162 = .ok (.invokevirtual 182, 3) := dk_182 0 182 (dk_at dksX6_base_7 0 rfl rfl)
theorem dX6_base_165 : decode cX6_base 165 = .ok (.return_, 1) := dk_177 (dk_at dksX6_base_7 3 rfl rfl)
def dkwX6_node_3 : List UInt8 := [180, 0, 18, 180, 0, 219, 182, 0, 177, 44, 183, 0, 238, 182, 0, 182, 177]
abbrev dktX6_node_3 : List UInt8 := dkwX6_node_3 ++ []
def dkwX6_node_2 : List UInt8 := [180, 0, 219, 182, 0, 177, 44, 180, 0, 233, 83, 42, 180, 0, 18, 180, 0, 219, 187, 0, 236, 89, 43, 42]
abbrev dktX6_node_2 : List UInt8 := dkwX6_node_2 ++ dktX6_node_3
def dkwX6_node_1 : List UInt8 := [180, 0, 161, 182, 0, 222, 182, 0, 226, 192, 0, 175, 77, 42, 180, 0, 25, 180, 0, 230, 42, 180, 0, 18]
abbrev dktX6_node_1 : List UInt8 := dkwX6_node_1 ++ dktX6_node_2
def dkwX6_node_0 : List UInt8 := [42, 42, 180, 0, 18, 180, 0, 219, 182, 0, 165, 76, 42, 180, 0, 18, 180, 0, 161, 42, 42, 180, 0, 18]
abbrev dktX6_node_0 : List UInt8 := dkwX6_node_0 ++ dktX6_node_1
theorem dksX6_node_0 : cX6_node.data.toList.drop 0 = dktX6_node_0 := by decide +kernel
theorem dksX6_node_1 : cX6_node.data.toList.drop 24 = dktX6_node_1 := dk_seg dksX6_node_0 24 rfl rfl
theorem dksX6_node_2 : cX6_node.data.toList.drop 48 = dktX6_node_2 := dk_seg dksX6_node_1 24 rfl rfl
theorem dksX6_node_3 : cX6_node.data.toList.drop 72 = dktX6_node_3 := dk_seg dksX6_node_2 24 rfl rfl
theorem dX6_node_0 : decode cX6_node 0 = .ok (.aload_n 0, 1) := dk_42 (dk_at dksX6_node_0 0 rfl rfl)
theorem dX6_node_1 : decode cX6_node 1 = .ok (.aload_n 0, 1) := dk_42 (dk_at dksX6_node_0 1 rfl rfl)
theorem dX6_node_2 : decode cX6_node 2 = .ok (.getfield 18, 3) := dk_180 0 18 (dk_at dksX6_node_0 2 rfl rfl)
theorem dX6_node_5 : decode cX6_node 5 = .ok (.getfield 219, 3) := dk_180 0 219 (dk_at dksX6_node_0 5 rfl rfl)
theorem dX6_node_8 : decode cX6_node 8 = .ok (.invokevirtual 165, 3) := dk_182 0 165 (dk_at dksX6_node_0 8 rfl rfl)
theorem dX6_node_11 : decode cX6_node 11 = .ok (.astore_n 1, 1) := dk_76 (dk_at dksX6_node_0 11 rfl rfl)
theorem dX6_node_12 : decode cX6_node 12 = .ok (.aload_n 0, 1) := dk_42 (dk_at dksX6_node_0 12 rfl rfl)
theorem dX6_node_13 : decode cX6_node 13 = .ok (.getfield 18, 3) := dk_180 0 18 (dk_at dksX6_node_0 13 rfl rfl)
theorem dX6_node_16 : decode cX6_node 16 = .ok (.getfield 161, 3) := dk_180 0 161 (dk_at dksX6_node_0 16 rfl rfl)
theorem dX6_node_19 : decode cX6_node 19 = .ok (.aload_n 0, 1) := dk_42 (dk_at dksX6_node_0 19 rfl rfl)
theorem dX6_node_20 : decode cX6_node 20 = .ok (.aload_n 0, 1) := dk_42 (dk_at dksX6_node_0 20 rfl rfl)
theorem dX6_node_21 : decode cX6_node 21 = .ok (.getfield 18, 3) := dk_180 0 18 (dk_at dksX6_node_0 21 rfl rfl)
theorem dX6_node_24 : decode cX6_node 24 = .ok (.getfield 161, 3) := dk_180 0 161 (dk_at dksX6_node_1 0 rfl rfl)
theorem dX6_node_27 : decode cX6_node 27 = .ok (.invokevirtual 222, 3) := dk_182 0 222 (dk_at dksX6_node_1 3 rfl rfl)
theorem dX6_node_30 : decode cX6_node 30 = .ok (.invokevirtual 226, 3) := dk_182 0 226 (dk_at dksX6_node_1 6 rfl rfl)
theorem dX6_node_33 : decode cX6_node 33 = .ok (.checkcast 175, 3) := dk_192 0 175 (dk_at dksX6_node_1 9 rfl rfl)
theorem dX6_node_36 : decode cX6_node 36 = .ok (.astore_n 2, 1) := dk_77 (dk_at dksX6_node_1 12 rfl rfl)
theorem dX6_node_37 : decode cX6_node 37 = .ok (.aload_n 0, 1) := dk_42 (dk_at dksX6_node_1 13 rfl rfl)
theorem dX6_node_38 : decode cX6_node 38 = .ok (.getfield 25, 3) := dk_180 0 25 (dk_at dksX6_node_1 14 rfl rfl)
theorem dX6_node_41 : decode cX6_node 41 = .ok (.getfield 230, 3) := dk_180 0 230 (dk_at dksX6_node_1 17 rfl rfl)
theorem dX6_node_44 : decode cX6_node 44 = .ok (.aload_n 0, 1) := dk_42 (dk_at dksX6_node_1 20 rfl rfl)
theorem dX6_node_45 : decode cX6_node 45 = .ok (.getfield 18, 3) := dk_180 0 18 (dk_at dksX6_node_1 21 rfl rfl)
theorem dX6_node_48 : decode cX6_node 48 = .ok (.getfield 219, 3) := dk_180 0 219 (dk_at dksX6_node_2 0 rfl rfl)
theorem dX6_node_51 : decode cX6_node 51 = .ok (.invokevirtual 177, 3) := dk_182 0 177 (dk_at dksX6_node_2 3 rfl rfl)
theorem dX6_node_54 : decode cX6_node 54 = .ok (.aload_n 2, 1) := dk_44 (dk_at dksX6_node_2 6 rfl rfl)
theorem dX6_node_55 : decode cX6_node 55 = .ok (.getfield 233, 3) := dk_180 0 233 (dk_at dksX6_node_2 7 rfl rfl)
theorem dX6_node_58 : decode cX6_node 58 = .ok (.aastore, 1) := dk_83 (dk_at dksX6_node_2 10 rfl rfl)
theorem dX6_node_59 : decode cX6_node 59 = .ok (.aload_n 0, 1) := dk_42 (dk_at dksX6_node_2 11 rfl rfl)
theorem dX6_node_60 : decode cX6_node 60 = .ok (.getfield 18, 3) := dk_180 0 18 (dk_at dksX6_node_2 12 rfl rfl)
theorem dX6_node_63 : decode cX6_node 63 = .ok (.getfield 219, 3) := dk_180 0 219 (dk_at dksX6_node_2 15 rfl rfl)
theorem dX6_node_66 : decode cX6_node 66 = .ok (.new 236, 3) := dk_187 0 236 (dk_at dksX6_node_2 18 rfl rfl)
theorem dX6_node_69 : decode cX6_node 69 = .ok (.dup, 1) := dk_89 (dk_at dksX6_node_2 21 rfl rfl)
theorem dX6_node_70 : decode cX6_node 70 = .ok (.aload_n 1, 1) := dk_43 (dk_at dksX6_node_2 22 rfl rfl)
theorem dX6_node_71 : decode cX6_node 71 = .ok (.aload_n 0, 1) := dk_42 (dk_at dksX6_node_2 23 rfl rfl)
theorem dX6_node_72 : decode cX6_node 72 = .ok (.getfield 18, 3) := dk_180 0 18 (dk_at dksX6_node_3 0 rfl rfl)
theorem dX6_node_75 : decode cX6_node 75 = .ok (.getfield 219, 3) := dk_180 0 219 (dk_at dksX6_node_3 3 rfl rfl)
theorem dX6_node_78 : decode cX6_node 78 = .ok (.invokevirtual 177, 3) := dk_182 0 177 (dk_at dksX6_node_3 6 rfl rfl)
theorem dX6_node_81 : decode cX6_node 81 = .ok (.aload_n 2, 1) := dk_44 (dk_at dksX6_node_3 9 rfl rfl)
theorem dX6_node_82 : decode cX6_node 82 = .ok (.invokespecial 238, 3) := dk_183 0 238 (dk_at dksX6_node_3 10 rfl rfl)
theorem dX6_node_85 : decode cX6_node 85 = .ok (.invokevirtual 182, 3) := dk_182 0 182 (dk_at dksX6_node_3 13 rfl rfl)
theorem dX6_node_88 : decode cX6_node 88 = .ok (.return_, 1) := dk_177 (dk_at dksX6_node_3 16 rfl rfl)
def dkwX6_known_1 : List UInt8 := [77, 187, 0, 108, 89, 42, 180, 0, 60, 6, 183, 0, 110, 191]
abbrev dktX6_known_1 : List UInt8 := dkwX6_known_1 ++ []
def dkwX6_known_0 : List UInt8 := [42, 42, 182, 0, 150, 4, 182, 0, 134, 43, 42, 180, 0, 38, 182, 0, 157, 61, 42, 182, 0, 141, 28, 172]
abbrev dktX6_known_0 : List UInt8 := dkwX6_known_0 ++ dktX6_known_1
theorem dksX6_known_0 : cX6_known.data.toList.drop 0 = dktX6_known_0 := by decide +kernel
theorem dksX6_known_1 : cX6_known.data.toList.drop 24 = dktX6_known_1 := dk_seg dksX6_known_0 24 rfl rfl
theorem dX6_known_0 : decode cX6_known 0 = .ok (.aload_n 0, 1) := dk_42 (dk_at dksX6_known_0 0 rfl rfl)
theorem dX6_known_1 : decode cX6_known 1 = .ok (.aload_n 0, 1) := dk_42 (dk_at dksX6_known_0 1 rfl rfl)
theorem dX6_known_2 : decode cX6_known 2 = .ok (.invokevirtual 150, 3) := dk_182 0 150 (dk_at dksX6_known_0 2 rfl rfl)
theorem dX6_known_5 : decode cX6_known 5 = .ok (.iconst 1, 1) := dk_4 (dk_at dksX6_known_0 5 rfl rfl)
theorem dX6_known_6 : decode cX6_known 6 = .ok (.invokevirtual 134, 3) := dk_182 0 134 (dk_at dksX6_known_0 6 rfl rfl)
theorem dX6_known_9 : decode cX6_known 9 = .ok (.aload_n 1, 1) := dk_43 (dk_at dksX6_known_0 9 rfl rfl)
theorem dX6_known_10 : decode cX6_known 10 = .ok (.aload_n 0, 1) := dk_42 (dk_at dksX6_known_0 10 rfl rfl)
theorem dX6_known_11 : decode cX6_known 11 = .ok (.getfield 38, 3) := dk_180 0 38 (dk_at dksX6_known_0 11 rfl rfl)
theorem dX6_known_14 : decode cX6_known 14 = .ok (.invokevirtual 157, 3) := dk_182 0 157 (dk_at dksX6_known_0 14 rfl rfl)
theorem dX6_known_17 : decode cX6_known 17 = .ok (.istore_n 2, 1) := dk_61 (dk_at dksX6_known_0 17 rfl rfl)
theorem dX6_known_18 : decode cX6_known 18 = .ok (.aload_n 0, 1) := dk_42 (dk_at dksX6_known_0 18 rfl rfl)
theorem dX6_known_19 : decode cX6_known 19 = .ok (.invokevirtual 141, 3) := dk_182 0 141 (dk_at dksX6_known_0 19 rfl rfl)
theorem dX6_known_22 : decode cX6_known 22 = .ok (.iload_n 2, 1) := dk_28 (dk_at dksX6_known_0 22 rfl rfl)
theorem dX6_known_23 : decode cX6_known 23 = .ok (.ireturn, 1) := dk_172 (dk_at dksX6_known_0 23 rfl rfl)
theorem dX6_known_24 : decode cX6_known 24 = .ok (.astore_n 2, 1) := dk_77 (dk_at dksX6_known_1 0 rfl rfl)
theorem dX6_known_25 : decode cX6_known 25 = .ok (.new 108, 3) := dk_187 0 108 (dk_at dksX6_known_1 1 rfl rfl)
theorem dX6_known_28 : decode cX6_known 28 = .ok (.dup, 1) := dk_89 (dk_at dksX6_known_1 4 rfl rfl)
theorem dX6_known_29 : decode cX6_known 29 = .ok (.aload_n 0, 1) := dk_42 (dk_at dksX6_known_1 5 rfl rfl)
theorem dX6_known_30 : decode cX6_known 30 = .ok (.getfield 60, 3) := dk_180 0 60 (dk_at dksX6_known_1 6 rfl rfl)
theorem dX6_known_33 : decode cX6_known 33 = .ok (.iconst 3, 1) := dk_6 (dk_at dksX6_known_1 9 rfl rfl)
theorem dX6_known_34 : decode cX6_known 34 = .ok (.invokespecial 110, 3) := dk_183 0 110 (dk_at dksX6_known_1 10 rfl rfl)
theorem dX6_known_37 : decode cX6_known 37 = .ok (.athrow, 1) := dk_191 (dk_at dksX6_known_1 13 rfl rfl)
def dkwX6_wire_4 : List UInt8 := [177]
abbrev dktX6_wire_4 : List UInt8 := dkwX6_wire_4 ++ []
def dkwX6_wire_3 : List UInt8 := [27, 28, 29, 42, 29, 27, 29, 160, 0, 7, 28, 167, 0, 4, 2, 182, 1, 2, 183, 1, 7, 182, 1, 10]
abbrev dktX6_wire_3 : List UInt8 := dkwX6_wire_3 ++ dktX6_wire_4
def dkwX6_wire_2 : List UInt8 := [182, 1, 2, 61, 42, 42, 180, 0, 18, 180, 0, 219, 182, 0, 222, 62, 42, 180, 0, 25, 187, 1, 5, 89]
abbrev dktX6_wire_2 : List UInt8 := dkwX6_wire_2 ++ dktX6_wire_3
def dkwX6_wire_1 : List UInt8 := [182, 0, 134, 42, 182, 0, 141, 42, 42, 180, 0, 18, 180, 0, 219, 182, 0, 222, 60, 42, 27, 2]
abbrev dktX6_wire_1 : List UInt8 := dkwX6_wire_1 ++ dktX6_wire_2
def dkwX6_wire_0 : List UInt8 := [42, 42, 180, 0, 25, 180, 0, 251, 182, 0, 255, 16, 10, 162, 0, 7, 4, 167, 0, 4, 3, 8]
abbrev dktX6_wire_0 : List UInt8 := dkwX6_wire_0 ++ dktX6_wire_1
theorem dksX6_wire_0 : cX6_wire.data.toList.drop 0 = dktX6_wire_0 := by decide +kernel
theorem dksX6_wire_1 : cX6_wire.data.toList.drop 22 = dktX6_wire_1 := dk_seg dksX6_wire_0 22 rfl rfl
theorem dksX6_wire_2 : cX6_wire.data.toList.drop 44 = dktX6_wire_2 := dk_seg dksX6_wire_1 22 rfl rfl
theorem dksX6_wire_3 : cX6_wire.data.toList.drop 68 = dktX6_wire_3 := dk_seg dksX6_wire_2 24 rfl rfl
theorem dksX6_wire_4 : cX6_wire.data.toList.drop 92 = dktX6_wire_4 := dk_seg dksX6_wire_3 24 rfl rfl
theorem dX6_wire_0 : decode cX6_wire 0 = .ok (.aload_n 0, 1) := dk_42 (dk_at dksX6_wire_0 0 rfl rfl)
theorem dX6_wire_1 : decode cX6_wire 1 = .ok (.aload_n 0, 1) := dk_42 (dk_at dksX6_wire_0 1 rfl rfl)
theorem dX6_wire_2 : decode cX6_wire 2 = .ok (.getfield 25, 3) := dk_180 0 25 (dk_at dksX6_wire_0 2 rfl rfl)
theorem dX6_wire_5 : decode cX6_wire 5 = .ok (.getfield 251, 3) := dk_180 0 251 (dk_at dksX6_wire_0 5 rfl rfl)
theorem dX6_wire_8 : decode cX6_wire 8 = .ok (.invokevirtual 255, 3) := dk_182 0 255 (dk_at dksX6_wire_0 8 rfl rfl)
theorem dX6_wire_11 : decode cX6_wire 11 = .ok (.bipush 10, 2) := dk_16 10 (dk_at dksX6_wire_0 11 rfl rfl)
theorem dX6_wire_13 : decode cX6_wire 13 = .ok (.if_icmp .ge 7, 3) := dk_162 0 7 (dk_at dksX6_wire_0 13 rfl rfl)
theorem dX6_wire_16 : decode cX6_wire 16 = .ok (.iconst 1, 1) := dk_4 (dk_at dksX6_wire_0 16 rfl rfl)
theorem dX6_wire_17 : decode cX6_wire 17 = .ok (.goto 4, 3) := dk_167 0 4 (dk_at dksX6_wire_0 17 rfl rfl)
theorem dX6_wire_20 : decode cX6_wire 20 = .ok (.iconst 0, 1) := dk_3 (dk_at dksX6_wire_0 20 rfl rfl)
theorem dX6_wire_21 : decode cX6_wire 21 = .ok (.iconst 5, 1) := dk_8 (dk_at dksX6_wire_0 21 rfl rfl)
theorem dX6_wire_22 : decode cX6_wire 22 = .ok (.invokevirtual 134, 3) := dk_182 0 134 (dk_at dksX6_wire_1 0 rfl rfl)
theorem dX6_wire_25 : decode cX6_wire 25 = .ok (.aload_n 0, 1) := dk_42 (dk_at dksX6_wire_1 3 rfl rfl)
theorem dX6_wire_26 : decode cX6_wire 26 = .ok (.invokevirtual 141, 3) := dk_182 0 141 (dk_at dksX6_wire_1 4 rfl rfl)
theorem dX6_wire_29 : decode cX6_wire 29 = .ok (.aload_n 0, 1) := dk_42 (dk_at dksX6_wire_1 7 rfl rfl)
theorem dX6_wire_30 : decode cX6_wire 30 = .ok (.aload_n 0, 1) := dk_42 (dk_at dksX6_wire_1 8 rfl rfl)
theorem dX6_wire_31 : decode cX6_wire 31 = .ok (.getfield 18, 3) := dk_180 0 18 (dk_at dksX6_wire_1 9 rfl rfl)
theorem dX6_wire_34 : decode cX6_wire 34 = .ok (.getfield 219, 3) := dk_180 0 219 (dk_at dksX6_wire_1 12 rfl rfl)
theorem dX6_wire_37 : decode cX6_wire 37 = .ok (.invokevirtual 222, 3) := dk_182 0 222 (dk_at dksX6_wire_1 15 rfl rfl)
theorem dX6_wire_40 : decode cX6_wire 40 = .ok (.istore_n 1, 1) := dk_60 (dk_at dksX6_wire_1 18 rfl rfl)
theorem dX6_wire_41 : decode cX6_wire 41 = .ok (.aload_n 0, 1) := dk_42 (dk_at dksX6_wire_1 19 rfl rfl)
theorem dX6_wire_42 : decode cX6_wire 42 = .ok (.iload_n 1, 1) := dk_27 (dk_at dksX6_wire_1 20 rfl rfl)
theorem dX6_wire_43 : decode cX6_wire 43 = .ok (.iconst (-1), 1) := dk_2 (dk_at dksX6_wire_1 21 rfl rfl)
theorem dX6_wire_44 : decode cX6_wire 44 = .ok (.invokevirtual 258, 3) := dk_182 1 2 (dk_at dksX6_wire_2 0 rfl rfl)
theorem dX6_wire_47 : decode cX6_wire 47 = .ok (.istore_n 2, 1) := dk_61 (dk_at dksX6_wire_2 3 rfl rfl)
theorem dX6_wire_48 : decode cX6_wire 48 = .ok (.aload_n 0, 1) := dk_42 (dk_at dksX6_wire_2 4 rfl rfl)
theorem dX6_wire_49 : decode cX6_wire 49 = .ok (.aload_n 0, 1) := dk_42 (dk_at dksX6_wire_2 5 rfl rfl)
theorem dX6_wire_50 : decode cX6_wire 50 = .ok (.getfield 18, 3) := dk_180 0 18 (dk_at dksX6_wire_2 6 rfl rfl)
theorem dX6_wire_53 : decode cX6_wire 53 = .ok (.getfield 219, 3) := dk_180 0 219 (dk_at dksX6_wire_2 9 rfl rfl)
theorem dX6_wire_56 : decode cX6_wire 56 = .ok (.invokevirtual 222, 3) := dk_182 0 222 (dk_at dksX6_wire_2 12 rfl rfl)
theorem dX6_wire_59 : decode cX6_wire 59 = .ok (.istore_n 3, 1) := dk_62 (dk_at dksX6_wire_2 15 rfl rfl)
theorem dX6_wire_60 : decode cX6_wire 60 = .ok (.aload_n 0, 1) := dk_42 (dk_at dksX6_wire_2 16 rfl rfl)
theorem dX6_wire_61 : decode cX6_wire 61 = .ok (.getfield 25, 3) := dk_180 0 25 (dk_at dksX6_wire_2 17 rfl rfl)
theorem dX6_wire_64 : decode cX6_wire 64 = .ok (.new 261, 3) := dk_187 1 5 (dk_at dksX6_wire_2 20 rfl rfl)
theorem dX6_wire_67 : decode cX6_wire 67 = .ok (.dup, 1) := dk_89 (dk_at dksX6_wire_2 23 rfl rfl)
theorem dX6_wire_68 : decode cX6_wire 68 = .ok (.iload_n 1, 1) := dk_27 (dk_at dksX6_wire_3 0 rfl rfl)
theorem dX6_wire_69 : decode cX6_wire 69 = .ok (.iload_n 2, 1) := dk_28 (dk_at dksX6_wire_3 1 rfl rfl)
theorem dX6_wire_70 : decode cX6_wire 70 = .ok (.iload_n 3, 1) := dk_29 (dk_at dksX6_wire_3 2 rfl rfl)
theorem dX6_wire_71 : decode cX6_wire 71 = .ok (.aload_n 0, 1) := dk_42 (dk_at dksX6_wire_3 3 rfl rfl)
theorem dX6_wire_72 : decode cX6_wire 72 = .ok (.iload_n 3, 1) := dk_29 (dk_at dksX6_wire_3 4 rfl rfl)
theorem dX6_wire_73 : decode cX6_wire 73 = .ok (.iload_n 1, 1) := dk_27 (dk_at dksX6_wire_3 5 rfl rfl)
theorem dX6_wire_74 : decode cX6_wire 74 = .ok (.iload_n 3, 1) := dk_29 (dk_at dksX6_wire_3 6 rfl rfl)
theorem dX6_wire_75 : decode cX6_wire 75 = .ok (.if_icmp .ne 7, 3) := dk_160 0 7 (dk_at dksX6_wire_3 7 rfl rfl)
theorem dX6_wire_78 : decode cX6_wire 78 = .ok (.iload_n 2, 1) := dk_28 (dk_at dksX6_wire_3 10 rfl rfl)
theorem dX6_wire_79 : decode cX6_wire 79 = .ok (.goto 4, 3) := dk_167 0 4 (dk_at dksX6_wire_3 11 rfl rfl)
theorem dX6_wire_82 : decode cX6_wire 82 = .ok (.iconst (-1), 1) := dk_2 (dk_at dksX6_wire_3 14 rfl rfl)
theorem dX6_wire_83 : decode cX6_wire 83 = .ok (.invokevirtual 258, 3) := dk_182 1 2 (dk_at dksX6_wire_3 15 rfl rfl)
theorem dX6_wire_86 : decode cX6_wire 86 = .ok (.invokespecial 263, 3) := dk_183 1 7 (dk_at dksX6_wire_3 18 rfl rfl)
theorem dX6_wire_89 : decode cX6_wire 89 = .ok (.invokevirtual 266, 3) := dk_182 1 10 (dk_at dksX6_wire_3 21 rfl rfl)
theorem dX6_wire_92 : decode cX6_wire 92 = .ok (.return_, 1) := dk_177 (dk_at dksX6_wire_4 0 rfl rfl)
def dkwX6_leg_2 : List UInt8 := [154, 0, 7, 4, 167, 0, 4, 3, 5, 182, 0, 134, 42, 180, 0, 42, 62, 42, 182, 0, 141, 29, 172]
abbrev dktX6_leg_2 : List UInt8 := dkwX6_leg_2 ++ []
def dkwX6_leg_1 : List UInt8 := [182, 0, 138, 42, 42, 180, 0, 42, 28, 159, 0, 22, 42, 180, 0, 25, 27, 42, 180, 0, 42, 182, 0, 247]
abbrev dktX6_leg_1 : List UInt8 := dkwX6_leg_1 ++ dktX6_leg_2
def dkwX6_leg_0 : List UInt8 := [42, 3, 42, 180, 0, 18, 180, 0, 219, 27, 182, 0, 226, 192, 0, 236, 180, 0, 241, 180, 0, 244, 4, 100]
abbrev dktX6_leg_0 : List UInt8 := dkwX6_leg_0 ++ dktX6_leg_1
theorem dksX6_leg_0 : cX6_leg.data.toList.drop 0 = dktX6_leg_0 := by decide +kernel
theorem dksX6_leg_1 : cX6_leg.data.toList.drop 24 = dktX6_leg_1 := dk_seg dksX6_leg_0 24 rfl rfl
theorem dksX6_leg_2 : cX6_leg.data.toList.drop 48 = dktX6_leg_2 := dk_seg dksX6_leg_1 24 rfl rfl
theorem dX6_leg_0 : decode cX6_leg 0 = .ok (.aload_n 0, 1) := dk_42 (dk_at dksX6_leg_0 0 rfl rfl)
theorem dX6_leg_1 : decode cX6_leg 1 = .ok (.iconst 0, 1) := dk_3 (dk_at dksX6_leg_0 1 rfl rfl)
theorem dX6_leg_2 : decode cX6_leg 2 = .ok (.aload_n 0, 1) := dk_42 (dk_at dksX6_leg_0 2 rfl rfl)
theorem dX6_leg_3 : decode cX6_leg 3 = .ok (.getfield 18, 3) := dk_180 0 18 (dk_at dksX6_leg_0 3 rfl rfl)
theorem dX6_leg_6 : decode cX6_leg 6 = .ok (.getfield 219, 3) := dk_180 0 219 (dk_at dksX6_leg_0 6 rfl rfl)
theorem dX6_leg_9 : decode cX6_leg 9 = .ok (.iload_n 1, 1) := dk_27 (dk_at dksX6_leg_0 9 rfl rfl)
theorem dX6_leg_10 : decode cX6_leg 10 = .ok (.invokevirtual 226, 3) := dk_182 0 226 (dk_at dksX6_leg_0 10 rfl rfl)
theorem dX6_leg_13 : decode cX6_leg 13 = .ok (.checkcast 236, 3) := dk_192 0 236 (dk_at dksX6_leg_0 13 rfl rfl)
theorem dX6_leg_16 : decode cX6_leg 16 = .ok (.getfield 241, 3) := dk_180 0 241 (dk_at dksX6_leg_0 16 rfl rfl)
theorem dX6_leg_19 : decode cX6_leg 19 = .ok (.getfield 244, 3) := dk_180 0 244 (dk_at dksX6_leg_0 19 rfl rfl)
theorem dX6_leg_22 : decode cX6_leg 22 = .ok (.iconst 1, 1) := dk_4 (dk_at dksX6_leg_0 22 rfl rfl)
theorem dX6_leg_23 : decode cX6_leg 23 = .ok (.isub, 1) := dk_100 (dk_at dksX6_leg_0 23 rfl rfl)
theorem dX6_leg_24 : decode cX6_leg 24 = .ok (.invokevirtual 138, 3) := dk_182 0 138 (dk_at dksX6_leg_1 0 rfl rfl)
theorem dX6_leg_27 : decode cX6_leg 27 = .ok (.aload_n 0, 1) := dk_42 (dk_at dksX6_leg_1 3 rfl rfl)
theorem dX6_leg_28 : decode cX6_leg 28 = .ok (.aload_n 0, 1) := dk_42 (dk_at dksX6_leg_1 4 rfl rfl)
theorem dX6_leg_29 : decode cX6_leg 29 = .ok (.getfield 42, 3) := dk_180 0 42 (dk_at dksX6_leg_1 5 rfl rfl)
theorem dX6_leg_32 : decode cX6_leg 32 = .ok (.iload_n 2, 1) := dk_28 (dk_at dksX6_leg_1 8 rfl rfl)
theorem dX6_leg_33 : decode cX6_leg 33 = .ok (.if_icmp .eq 22, 3) := dk_159 0 22 (dk_at dksX6_leg_1 9 rfl rfl)
theorem dX6_leg_36 : decode cX6_leg 36 = .ok (.aload_n 0, 1) := dk_42 (dk_at dksX6_leg_1 12 rfl rfl)
theorem dX6_leg_37 : decode cX6_leg 37 = .ok (.getfield 25, 3) := dk_180 0 25 (dk_at dksX6_leg_1 13 rfl rfl)
theorem dX6_leg_40 : decode cX6_leg 40 = .ok (.iload_n 1, 1) := dk_27 (dk_at dksX6_leg_1 16 rfl rfl)
theorem dX6_leg_41 : decode cX6_leg 41 = .ok (.aload_n 0, 1) := dk_42 (dk_at dksX6_leg_1 17 rfl rfl)
theorem dX6_leg_42 : decode cX6_leg 42 = .ok (.getfield 42, 3) := dk_180 0 42 (dk_at dksX6_leg_1 18 rfl rfl)
theorem dX6_leg_45 : decode cX6_leg 45 = .ok (.invokevirtual 247, 3) := dk_182 0 247 (dk_at dksX6_leg_1 21 rfl rfl)
theorem dX6_leg_48 : decode cX6_leg 48 = .ok (.ifCond .ne 7, 3) := dk_154 0 7 (dk_at dksX6_leg_2 0 rfl rfl)
theorem dX6_leg_51 : decode cX6_leg 51 = .ok (.iconst 1, 1) := dk_4 (dk_at dksX6_leg_2 3 rfl rfl)
theorem dX6_leg_52 : decode cX6_leg 52 = .ok (.goto 4, 3) := dk_167 0 4 (dk_at dksX6_leg_2 4 rfl rfl)
theorem dX6_leg_55 : decode cX6_leg 55 = .ok (.iconst 0, 1) := dk_3 (dk_at dksX6_leg_2 7 rfl rfl)
theorem dX6_leg_56 : decode cX6_leg 56 = .ok (.iconst 2, 1) := dk_5 (dk_at dksX6_leg_2 8 rfl rfl)
theorem dX6_leg_57 : decode cX6_leg 57 = .ok (.invokevirtual 134, 3) := dk_182 0 134 (dk_at dksX6_leg_2 9 rfl rfl)
theorem dX6_leg_60 : decode cX6_leg 60 = .ok (.aload_n 0, 1) := dk_42 (dk_at dksX6_leg_2 12 rfl rfl)
theorem dX6_leg_61 : decode cX6_leg 61 = .ok (.getfield 42, 3) := dk_180 0 42 (dk_at dksX6_leg_2 13 rfl rfl)
theorem dX6_leg_64 : decode cX6_leg 64 = .ok (.istore_n 3, 1) := dk_62 (dk_at dksX6_leg_2 16 rfl rfl)
theorem dX6_leg_65 : decode cX6_leg 65 = .ok (.aload_n 0, 1) := dk_42 (dk_at dksX6_leg_2 17 rfl rfl)
theorem dX6_leg_66 : decode cX6_leg 66 = .ok (.invokevirtual 141, 3) := dk_182 0 141 (dk_at dksX6_leg_2 18 rfl rfl)
theorem dX6_leg_69 : decode cX6_leg 69 = .ok (.iload_n 3, 1) := dk_29 (dk_at dksX6_leg_2 21 rfl rfl)
theorem dX6_leg_70 : decode cX6_leg 70 = .ok (.ireturn, 1) := dk_172 (dk_at dksX6_leg_2 22 rfl rfl)
def dkwX7_init_0 : List UInt8 := [42, 1, 1, 3, 3, 183, 0, 1, 42, 16, 8, 27, 104, 28, 96, 181, 0, 7, 177]
abbrev dktX7_init_0 : List UInt8 := dkwX7_init_0 ++ []
theorem dksX7_init_0 : cX7_init.data.toList.drop 0 = dktX7_init_0 := by decide +kernel
theorem dX7_init_0 : decode cX7_init 0 = .ok (.aload_n 0, 1) := dk_42 (dk_at dksX7_init_0 0 rfl rfl)
theorem dX7_init_1 : decode cX7_init 1 = .ok (.aconst_null, 1) := dk_1 (dk_at dksX7_init_0 1 rfl rfl)
theorem dX7_init_2 : decode cX7_init 2 = .ok (.aconst_null, 1) := dk_1 (dk_at dksX7_init_0 2 rfl rfl)
theorem dX7_init_3 : decode cX7_init 3 = .ok (.iconst 0, 1) := dk_3 (dk_at dksX7_init_0 3 rfl rfl)
theorem dX7_init_4 : decode cX7_init 4 = .ok (.iconst 0, 1) := dk_3 (dk_at dksX7_init_0 4 rfl rfl)
theorem dX7_init_5 : decode cX7_init 5 = .ok (.invokespecial 1, 3) := dk_183 0 1 (dk_at dksX7_init_0 5 rfl rfl)
theorem dX7_init_8 : decode cX7_init 8 = .ok (.aload_n 0, 1) := dk_42 (dk_at dksX7_init_0 8 rfl rfl)
theorem dX7_init_9 : decode cX7_init 9 = .ok (.bipush 8, 2) := dk_16 8 (dk_at dksX7_init_0 9 rfl rfl)
theorem dX7_init_11 : decode cX7_init 11 = .ok (.iload_n 1, 1) := dk_27 (dk_at dksX7_init_0 11 rfl rfl)
theorem dX7_init_12 : decode cX7_init 12 = .ok (.imul, 1) := dk_104 (dk_at dksX7_init_0 12 rfl rfl)
theorem dX7_init_13 : decode cX7_init 13 = .ok (.iload_n 2, 1) := dk_28 (dk_at dksX7_init_0 13 rfl rfl)
theorem dX7_init_14 : decode cX7_init 14 = .ok (.iadd, 1) := dk_96 (dk_at dksX7_init_0 14 rfl rfl)
theorem dX7_init_15 : decode cX7_init 15 = .ok (.putfield 7, 3) := dk_181 0 7 (dk_at dksX7_init_0 15 rfl rfl)
theorem dX7_init_18 : decode cX7_init 18 = .ok (.return_, 1) := dk_177 (dk_at dksX7_init_0 18 rfl rfl)
def dkwX8_compareTo_0 : List UInt8 := [42, 43, 192, 0, 8, 182, 0, 23, 172]
abbrev dktX8_compareTo_0 : List UInt8 := dkwX8_compareTo_0 ++ []
theorem dksX8_compareTo_0 : cX8_compareTo.data.toList.drop 0 = dktX8_compareTo_0 := by decide +kernel
theorem dX8_compareTo_0 : decode cX8_compareTo 0 = .ok (.aload_n 0, 1) := dk_42 (dk_at dksX8_compareTo_0 0 rfl rfl)
theorem dX8_compareTo_1 : decode cX8_compareTo 1 = .ok (.aload_n 1, 1) := dk_43 (dk_at dksX8_compareTo_0 1 rfl rfl)
theorem dX8_compareTo_2 : decode cX8_compareTo 2 = .ok (.checkcast 8, 3) := dk_192 0 8 (dk_at dksX8_compareTo_0 2 rfl rfl)
theorem dX8_compareTo_5 : decode cX8_compareTo 5 = .ok (.invokevirtual 23, 3) := dk_182 0 23 (dk_at dksX8_compareTo_0 5 rfl rfl)
theorem dX8_compareTo_8 : decode cX8_compareTo 8 = .ok (.ireturn, 1) := dk_172 (dk_at dksX8_compareTo_0 8 rfl rfl)
def dkwX8_compareTo_2_0 : List UInt8 := [42, 180, 0, 7, 43, 180, 0, 7, 182, 0, 17, 172]
abbrev dktX8_compareTo_2_0 : List UInt8 := dkwX8_compareTo_2_0 ++ []
theorem dksX8_compareTo_2_0 : cX8_compareTo_2.data.toList.drop 0 = dktX8_compareTo_2_0 := by decide +kernel
theorem dX8_compareTo_2_0 : decode cX8_compareTo_2 0 = .ok (.aload_n 0, 1) := dk_42 (dk_at dksX8_compareTo_2_0 0 rfl rfl)
theorem dX8_compareTo_2_1 : decode cX8_compareTo_2 1 = .ok (.getfield 7, 3) := dk_180 0 7 (dk_at dksX8_compareTo_2_0 1 rfl rfl)
theorem dX8_compareTo_2_4 : decode cX8_compareTo_2 4 = .ok (.aload_n 1, 1) := dk_43 (dk_at dksX8_compareTo_2_0 4 rfl rfl)
theorem dX8_compareTo_2_5 : decode cX8_compareTo_2 5 = .ok (.getfield 7, 3) := dk_180 0 7 (dk_at dksX8_compareTo_2_0 5 rfl rfl)
theorem dX8_compareTo_2_8 : decode cX8_compareTo_2 8 = .ok (.invokevirtual 17, 3) := dk_182 0 17 (dk_at dksX8_compareTo_2_0 8 rfl rfl)
theorem dX8_compareTo_2_11 : decode cX8_compareTo_2 11 = .ok (.ireturn, 1) := dk_172 (dk_at dksX8_compareTo_2_0 11 rfl rfl)
def dkwX8_init_0 : List UInt8 := [42, 183, 0, 1, 42, 43, 181, 0, 7, 42, 28, 181, 0, 13, 177]
abbrev dktX8_init_0 : List UInt8 := dkwX8_init_0 ++ []
theorem dksX8_init_0 : cX8_init.data.toList.drop 0 = dktX8_init_0 := by decide +kernel
theorem dX8_init_0 : decode cX8_init 0 = .ok (.aload_n 0, 1) := dk_42 (dk_at dksX8_init_0 0 rfl rfl)
theorem dX8_init_1 : decode cX8_init 1 = .ok (.invokespecial 1, 3) := dk_183 0 1 (dk_at dksX8_init_0 1 rfl rfl)
theorem dX8_init_4 : decode cX8_init 4 = .ok (.aload_n 0, 1) := dk_42 (dk_at dksX8_init_0 4 rfl rfl)
theorem dX8_init_5 : decode cX8_init 5 = .ok (.aload_n 1, 1) := dk_43 (dk_at dksX8_init_0 5 rfl rfl)
theorem dX8_init_6 : decode cX8_init 6 = .ok (.putfield 7, 3) := dk_181 0 7 (dk_at dksX8_init_0 6 rfl rfl)
theorem dX8_init_9 : decode cX8_init 9 = .ok (.aload_n 0, 1) := dk_42 (dk_at dksX8_init_0 9 rfl rfl)
theorem dX8_init_10 : decode cX8_init 10 = .ok (.iload_n 2, 1) := dk_28 (dk_at dksX8_init_0 10 rfl rfl)
theorem dX8_init_11 : decode cX8_init 11 = .ok (.putfield 13, 3) := dk_181 0 13 (dk_at dksX8_init_0 11 rfl rfl)
theorem dX8_init_14 : decode cX8_init 14 = .ok (.return_, 1) := dk_177 (dk_at dksX8_init_0 14 rfl rfl)
def dkwX9_init_0 : List UInt8 := [42, 43, 28, 183, 0, 1, 42, 29, 181, 0, 7, 42, 25, 4, 181, 0, 13, 177]
abbrev dktX9_init_0 : List UInt8 := dkwX9_init_0 ++ []
theorem dksX9_init_0 : cX9_init.data.toList.drop 0 = dktX9_init_0 := by decide +kernel
theorem dX9_init_0 : decode cX9_init 0 = .ok (.aload_n 0, 1) := dk_42 (dk_at dksX9_init_0 0 rfl rfl)
theorem dX9_init_1 : decode cX9_init 1 = .ok (.aload_n 1, 1) := dk_43 (dk_at dksX9_init_0 1 rfl rfl)
theorem dX9_init_2 : decode cX9_init 2 = .ok (.iload_n 2, 1) := dk_28 (dk_at dksX9_init_0 2 rfl rfl)
theorem dX9_init_3 : decode cX9_init 3 = .ok (.invokespecial 1, 3) := dk_183 0 1 (dk_at dksX9_init_0 3 rfl rfl)
theorem dX9_init_6 : decode cX9_init 6 = .ok (.aload_n 0, 1) := dk_42 (dk_at dksX9_init_0 6 rfl rfl)
theorem dX9_init_7 : decode cX9_init 7 = .ok (.iload_n 3, 1) := dk_29 (dk_at dksX9_init_0 7 rfl rfl)
theorem dX9_init_8 : decode cX9_init 8 = .ok (.putfield 7, 3) := dk_181 0 7 (dk_at dksX9_init_0 8 rfl rfl)
theorem dX9_init_11 : decode cX9_init 11 = .ok (.aload_n 0, 1) := dk_42 (dk_at dksX9_init_0 11 rfl rfl)
theorem dX9_init_12 : decode cX9_init 12 = .ok (.aload 4, 2) := dk_25 4 (dk_at dksX9_init_0 12 rfl rfl)
theorem dX9_init_14 : decode cX9_init 14 = .ok (.putfield 13, 3) := dk_181 0 13 (dk_at dksX9_init_0 14 rfl rfl)
theorem dX9_init_17 : decode cX9_init 17 = .ok (.return_, 1) := dk_177 (dk_at dksX9_init_0 17 rfl rfl)
def dkwX10_init_1 : List UInt8 := [181, 0, 20, 177]
abbrev dktX10_init_1 : List UInt8 := dkwX10_init_1 ++ []
def dkwX10_init_0 : List UInt8 := [42, 183, 0, 3, 42, 16, 8, 16, 8, 197, 0, 9, 2, 181, 0, 11, 42, 43, 181, 0, 16, 42, 28]
abbrev dktX10_init_0 : List UInt8 := dkwX10_init_0 ++ dktX10_init_1
theorem dksX10_init_0 : cX10_init.data.toList.drop 0 = dktX10_init_0 := by decide +kernel
theorem dksX10_init_1 : cX10_init.data.toList.drop 23 = dktX10_init_1 := dk_seg dksX10_init_0 23 rfl rfl
theorem dX10_init_0 : decode cX10_init 0 = .ok (.aload_n 0, 1) := dk_42 (dk_at dksX10_init_0 0 rfl rfl)
theorem dX10_init_1 : decode cX10_init 1 = .ok (.invokespecial 3, 3) := dk_183 0 3 (dk_at dksX10_init_0 1 rfl rfl)
theorem dX10_init_4 : decode cX10_init 4 = .ok (.aload_n 0, 1) := dk_42 (dk_at dksX10_init_0 4 rfl rfl)
theorem dX10_init_5 : decode cX10_init 5 = .ok (.bipush 8, 2) := dk_16 8 (dk_at dksX10_init_0 5 rfl rfl)
theorem dX10_init_7 : decode cX10_init 7 = .ok (.bipush 8, 2) := dk_16 8 (dk_at dksX10_init_0 7 rfl rfl)
theorem dX10_init_9 : decode cX10_init 9 = .ok (.multianewarray 9 2, 4) := by decide +kernel
theorem dX10_init_13 : decode cX10_init 13 = .ok (.putfield 11, 3) := dk_181 0 11 (dk_at dksX10_init_0 13 rfl rfl)
theorem dX10_init_16 : decode cX10_init 16 = .ok (.aload_n 0, 1) := dk_42 (dk_at dksX10_init_0 16 rfl rfl)
theorem dX10_init_17 : decode cX10_init 17 = .ok (.aload_n 1, 1) := dk_43 (dk_at dksX10_init_0 17 rfl rfl)
theorem dX10_init_18 : decode cX10_init 18 = .ok (.putfield 16, 3) := dk_181 0 16 (dk_at dksX10_init_0 18 rfl rfl)
theorem dX10_init_21 : decode cX10_init 21 = .ok (.aload_n 0, 1) := dk_42 (dk_at dksX10_init_0 21 rfl rfl)
theorem dX10_init_22 : decode cX10_init 22 = .ok (.iload_n 2, 1) := dk_28 (dk_at dksX10_init_0 22 rfl rfl)
theorem dX10_init_23 : decode cX10_init 23 = .ok (.putfield 20, 3) := dk_181 0 20 (dk_at dksX10_init_1 0 rfl rfl)
theorem dX10_init_26 : decode cX10_init 26 = .ok (.return_, 1) := dk_177 (dk_at dksX10_init_1 3 rfl rfl)
def dkwX10_signature_1 : List UInt8 := [100, 29, 2, 130, 126, 182, 0, 34, 79, 132, 3, 1, 167, 255, 228, 44, 176]
abbrev dktX10_signature_1 : List UInt8 := dkwX10_signature_1 ++ []
def dkwX10_signature_0 : List UInt8 := [4, 27, 120, 188, 10, 77, 3, 62, 29, 44, 190, 162, 0, 28, 44, 29, 42, 4, 42, 180, 0, 20, 120, 4]
abbrev dktX10_signature_0 : List UInt8 := dkwX10_signature_0 ++ dktX10_signature_1
theorem dksX10_signature_0 : cX10_signature.data.toList.drop 0 = dktX10_signature_0 := by decide +kernel
theorem dksX10_signature_1 : cX10_signature.data.toList.drop 24 = dktX10_signature_1 := dk_seg dksX10_signature_0 24 rfl rfl
theorem dX10_signature_0 : decode cX10_signature 0 = .ok (.iconst 1, 1) := dk_4 (dk_at dksX10_signature_0 0 rfl rfl)
theorem dX10_signature_1 : decode cX10_signature 1 = .ok (.iload_n 1, 1) := dk_27 (dk_at dksX10_signature_0 1 rfl rfl)
theorem dX10_signature_2 : decode cX10_signature 2 = .ok (.ishl, 1) := dk_120 (dk_at dksX10_signature_0 2 rfl rfl)
theorem dX10_signature_3 : decode cX10_signature 3 = .ok (.newarray .int, 2) := dk_188_10 (dk_at dksX10_signature_0 3 rfl rfl)
theorem dX10_signature_5 : decode cX10_signature 5 = .ok (.astore_n 2, 1) := dk_77 (dk_at dksX10_signature_0 5 rfl rfl)
theorem dX10_signature_6 : decode cX10_signature 6 = .ok (.iconst 0, 1) := dk_3 (dk_at dksX10_signature_0 6 rfl rfl)
theorem dX10_signature_7 : decode cX10_signature 7 = .ok (.istore_n 3, 1) := dk_62 (dk_at dksX10_signature_0 7 rfl rfl)
theorem dX10_signature_8 : decode cX10_signature 8 = .ok (.iload_n 3, 1) := dk_29 (dk_at dksX10_signature_0 8 rfl rfl)
theorem dX10_signature_9 : decode cX10_signature 9 = .ok (.aload_n 2, 1) := dk_44 (dk_at dksX10_signature_0 9 rfl rfl)
theorem dX10_signature_10 : decode cX10_signature 10 = .ok (.arraylength, 1) := dk_190 (dk_at dksX10_signature_0 10 rfl rfl)
theorem dX10_signature_11 : decode cX10_signature 11 = .ok (.if_icmp .ge 28, 3) := dk_162 0 28 (dk_at dksX10_signature_0 11 rfl rfl)
theorem dX10_signature_14 : decode cX10_signature 14 = .ok (.aload_n 2, 1) := dk_44 (dk_at dksX10_signature_0 14 rfl rfl)
theorem dX10_signature_15 : decode cX10_signature 15 = .ok (.iload_n 3, 1) := dk_29 (dk_at dksX10_signature_0 15 rfl rfl)
theorem dX10_signature_16 : decode cX10_signature 16 = .ok (.aload_n 0, 1) := dk_42 (dk_at dksX10_signature_0 16 rfl rfl)
theorem dX10_signature_17 : decode cX10_signature 17 = .ok (.iconst 1, 1) := dk_4 (dk_at dksX10_signature_0 17 rfl rfl)
theorem dX10_signature_18 : decode cX10_signature 18 = .ok (.aload_n 0, 1) := dk_42 (dk_at dksX10_signature_0 18 rfl rfl)
theorem dX10_signature_19 : decode cX10_signature 19 = .ok (.getfield 20, 3) := dk_180 0 20 (dk_at dksX10_signature_0 19 rfl rfl)
theorem dX10_signature_22 : decode cX10_signature 22 = .ok (.ishl, 1) := dk_120 (dk_at dksX10_signature_0 22 rfl rfl)
theorem dX10_signature_23 : decode cX10_signature 23 = .ok (.iconst 1, 1) := dk_4 (dk_at dksX10_signature_0 23 rfl rfl)
theorem dX10_signature_24 : decode cX10_signature 24 = .ok (.isub, 1) := dk_100 (dk_at dksX10_signature_1 0 rfl rfl)
theorem dX10_signature_25 : decode cX10_signature 25 = .ok (.iload_n 3, 1) := dk_29 (dk_at dksX10_signature_1 1 rfl rfl)
theorem dX10_signature_26 : decode cX10_signature 26 = .ok (.iconst (-1), 1) := dk_2 (dk_at dksX10_signature_1 2 rfl rfl)
theorem dX10_signature_27 : decode cX10_signature 27 = .ok (.ixor, 1) := dk_130 (dk_at dksX10_signature_1 3 rfl rfl)
theorem dX10_signature_28 : decode cX10_signature 28 = .ok (.iand, 1) := dk_126 (dk_at dksX10_signature_1 4 rfl rfl)
theorem dX10_signature_29 : decode cX10_signature 29 = .ok (.invokevirtual 34, 3) := dk_182 0 34 (dk_at dksX10_signature_1 5 rfl rfl)
theorem dX10_signature_32 : decode cX10_signature 32 = .ok (.iastore, 1) := dk_79 (dk_at dksX10_signature_1 8 rfl rfl)
theorem dX10_signature_33 : decode cX10_signature 33 = .ok (.iinc 3 1, 3) := dk_132 3 1 (dk_at dksX10_signature_1 9 rfl rfl)
theorem dX10_signature_36 : decode cX10_signature 36 = .ok (.goto (-28), 3) := dk_167 255 228 (dk_at dksX10_signature_1 12 rfl rfl)
theorem dX10_signature_39 : decode cX10_signature 39 = .ok (.aload_n 2, 1) := dk_44 (dk_at dksX10_signature_1 15 rfl rfl)
theorem dX10_signature_40 : decode cX10_signature 40 = .ok (.areturn, 1) := dk_176 (dk_at dksX10_signature_1 16 rfl rfl)
def dkwX10_matchings_3 : List UInt8 := [182, 0, 34, 133, 105, 97, 66, 132, 5, 1, 167, 255, 192, 42, 180, 0, 16, 33, 182, 0, 37, 172]
abbrev dktX10_matchings_3 : List UInt8 := dkwX10_matchings_3 ++ []
def dkwX10_matchings_2 : List UInt8 := [33, 42, 180, 0, 11, 28, 50, 21, 5, 46, 133, 42, 27, 4, 28, 120, 4, 21, 5, 120, 128, 2, 130, 126]
abbrev dktX10_matchings_2 : List UInt8 := dkwX10_matchings_2 ++ dktX10_matchings_3
def dkwX10_matchings_1 : List UInt8 := [162, 0, 61, 27, 21, 5, 184, 0, 30, 153, 0, 46, 42, 180, 0, 11, 28, 50, 21, 5, 46, 158, 0, 34]
abbrev dktX10_matchings_1 : List UInt8 := dkwX10_matchings_1 ++ dktX10_matchings_2
def dkwX10_matchings_0 : List UInt8 := [27, 154, 0, 5, 4, 172, 27, 184, 0, 24, 61, 9, 66, 28, 4, 96, 54, 5, 21, 5, 42, 180, 0, 20]
abbrev dktX10_matchings_0 : List UInt8 := dkwX10_matchings_0 ++ dktX10_matchings_1
theorem dksX10_matchings_0 : cX10_matchings.data.toList.drop 0 = dktX10_matchings_0 := by decide +kernel
theorem dksX10_matchings_1 : cX10_matchings.data.toList.drop 24 = dktX10_matchings_1 := dk_seg dksX10_matchings_0 24 rfl rfl
theorem dksX10_matchings_2 : cX10_matchings.data.toList.drop 48 = dktX10_matchings_2 := dk_seg dksX10_matchings_1 24 rfl rfl
theorem dksX10_matchings_3 : cX10_matchings.data.toList.drop 72 = dktX10_matchings_3 := dk_seg dksX10_matchings_2 24 rfl rfl
theorem dX10_matchings_0 : decode cX10_matchings 0 = .ok (.iload_n 1, 1) := dk_27 (dk_at dksX10_matchings_0 0 rfl rfl)
theorem dX10_matchings_1 : decode cX10_matchings 1 = .ok (.ifCond .ne 5, 3) := dk_154 0 5 (dk_at dksX10_matchings_0 1 rfl rfl)
theorem dX10_matchings_4 : decode cX10_matchings 4 = .ok (.iconst 1, 1) := dk_4 (dk_at dksX10_matchings_0 4 rfl rfl)
theorem dX10_matchings_5 : decode cX10_matchings 5 = .ok (.ireturn, 1) := dk_172 (dk_at dksX10_matchings_0 5 rfl rfl)
theorem dX10_matchings_6 : decode cX10_matchings 6 = .ok (.iload_n 1, 1) := dk_27 (dk_at dksX10_matchings_0 6 rfl rfl)
theorem dX10_matchings_7 : decode cX10_matchings 7 = .ok (.invokestatic 24, 3) := dk_184 0 24 (dk_at dksX10_matchings_0 7 rfl rfl)
theorem dX10_matchings_10 : decode cX10_matchings 10 = .ok (.istore_n 2, 1) := dk_61 (dk_at dksX10_matchings_0 10 rfl rfl)
theorem dX10_matchings_11 : decode cX10_matchings 11 = .ok (.lconst 0, 1) := dk_9 (dk_at dksX10_matchings_0 11 rfl rfl)
theorem dX10_matchings_12 : decode cX10_matchings 12 = .ok (.lstore_n 3, 1) := dk_66 (dk_at dksX10_matchings_0 12 rfl rfl)
theorem dX10_matchings_13 : decode cX10_matchings 13 = .ok (.iload_n 2, 1) := dk_28 (dk_at dksX10_matchings_0 13 rfl rfl)
theorem dX10_matchings_14 : decode cX10_matchings 14 = .ok (.iconst 1, 1) := dk_4 (dk_at dksX10_matchings_0 14 rfl rfl)
theorem dX10_matchings_15 : decode cX10_matchings 15 = .ok (.iadd, 1) := dk_96 (dk_at dksX10_matchings_0 15 rfl rfl)
theorem dX10_matchings_16 : decode cX10_matchings 16 = .ok (.istore 5, 2) := dk_54 5 (dk_at dksX10_matchings_0 16 rfl rfl)
theorem dX10_matchings_18 : decode cX10_matchings 18 = .ok (.iload 5, 2) := dk_21 5 (dk_at dksX10_matchings_0 18 rfl rfl)
theorem dX10_matchings_20 : decode cX10_matchings 20 = .ok (.aload_n 0, 1) := dk_42 (dk_at dksX10_matchings_0 20 rfl rfl)
theorem dX10_matchings_21 : decode cX10_matchings 21 = .ok (.getfield 20, 3) := dk_180 0 20 (dk_at dksX10_matchings_0 21 rfl rfl)
theorem dX10_matchings_24 : decode cX10_matchings 24 = .ok (.if_icmp .ge 61, 3) := dk_162 0 61 (dk_at dksX10_matchings_1 0 rfl rfl)
theorem dX10_matchings_27 : decode cX10_matchings 27 = .ok (.iload_n 1, 1) := dk_27 (dk_at dksX10_matchings_1 3 rfl rfl)
theorem dX10_matchings_28 : decode cX10_matchings 28 = .ok (.iload 5, 2) := dk_21 5 (dk_at dksX10_matchings_1 4 rfl rfl)
theorem dX10_matchings_30 : decode cX10_matchings 30 = .ok (.invokestatic 30, 3) := dk_184 0 30 (dk_at dksX10_matchings_1 6 rfl rfl)
theorem dX10_matchings_33 : decode cX10_matchings 33 = .ok (.ifCond .eq 46, 3) := dk_153 0 46 (dk_at dksX10_matchings_1 9 rfl rfl)
theorem dX10_matchings_36 : decode cX10_matchings 36 = .ok (.aload_n 0, 1) := dk_42 (dk_at dksX10_matchings_1 12 rfl rfl)
theorem dX10_matchings_37 : decode cX10_matchings 37 = .ok (.getfield 11, 3) := dk_180 0 11 (dk_at dksX10_matchings_1 13 rfl rfl)
theorem dX10_matchings_40 : decode cX10_matchings 40 = .ok (.iload_n 2, 1) := dk_28 (dk_at dksX10_matchings_1 16 rfl rfl)
theorem dX10_matchings_41 : decode cX10_matchings 41 = .ok (.aaload, 1) := dk_50 (dk_at dksX10_matchings_1 17 rfl rfl)
theorem dX10_matchings_42 : decode cX10_matchings 42 = .ok (.iload 5, 2) := dk_21 5 (dk_at dksX10_matchings_1 18 rfl rfl)
theorem dX10_matchings_44 : decode cX10_matchings 44 = .ok (.iaload, 1) := dk_46 (dk_at dksX10_matchings_1 20 rfl rfl)
theorem dX10_matchings_45 : decode cX10_matchings 45 = .ok (.ifCond .le 34, 3) := dk_158 0 34 (dk_at dksX10_matchings_1 21 rfl rfl)
theorem dX10_matchings_48 : decode cX10_matchings 48 = .ok (.lload_n 3, 1) := dk_33 (dk_at dksX10_matchings_2 0 rfl rfl)
theorem dX10_matchings_49 : decode cX10_matchings 49 = .ok (.aload_n 0, 1) := dk_42 (dk_at dksX10_matchings_2 1 rfl rfl)
theorem dX10_matchings_50 : decode cX10_matchings 50 = .ok (.getfield 11, 3) := dk_180 0 11 (dk_at dksX10_matchings_2 2 rfl rfl)
theorem dX10_matchings_53 : decode cX10_matchings 53 = .ok (.iload_n 2, 1) := dk_28 (dk_at dksX10_matchings_2 5 rfl rfl)
theorem dX10_matchings_54 : decode cX10_matchings 54 = .ok (.aaload, 1) := dk_50 (dk_at dksX10_matchings_2 6 rfl rfl)
theorem dX10_matchings_55 : decode cX10_matchings 55 = .ok (.iload 5, 2) := dk_21 5 (dk_at dksX10_matchings_2 7 rfl rfl)
theorem dX10_matchings_57 : decode cX10_matchings 57 = .ok (.iaload, 1) := dk_46 (dk_at dksX10_matchings_2 9 rfl rfl)
theorem dX10_matchings_58 : decode cX10_matchings 58 = .ok (.i2l, 1) := dk_133 (dk_at dksX10_matchings_2 10 rfl rfl)
theorem dX10_matchings_59 : decode cX10_matchings 59 = .ok (.aload_n 0, 1) := dk_42 (dk_at dksX10_matchings_2 11 rfl rfl)
theorem dX10_matchings_60 : decode cX10_matchings 60 = .ok (.iload_n 1, 1) := dk_27 (dk_at dksX10_matchings_2 12 rfl rfl)
theorem dX10_matchings_61 : decode cX10_matchings 61 = .ok (.iconst 1, 1) := dk_4 (dk_at dksX10_matchings_2 13 rfl rfl)
theorem dX10_matchings_62 : decode cX10_matchings 62 = .ok (.iload_n 2, 1) := dk_28 (dk_at dksX10_matchings_2 14 rfl rfl)
theorem dX10_matchings_63 : decode cX10_matchings 63 = .ok (.ishl, 1) := dk_120 (dk_at dksX10_matchings_2 15 rfl rfl)
theorem dX10_matchings_64 : decode cX10_matchings 64 = .ok (.iconst 1, 1) := dk_4 (dk_at dksX10_matchings_2 16 rfl rfl)
theorem dX10_matchings_65 : decode cX10_matchings 65 = .ok (.iload 5, 2) := dk_21 5 (dk_at dksX10_matchings_2 17 rfl rfl)
theorem dX10_matchings_67 : decode cX10_matchings 67 = .ok (.ishl, 1) := dk_120 (dk_at dksX10_matchings_2 19 rfl rfl)
theorem dX10_matchings_68 : decode cX10_matchings 68 = .ok (.ior, 1) := dk_128 (dk_at dksX10_matchings_2 20 rfl rfl)
theorem dX10_matchings_69 : decode cX10_matchings 69 = .ok (.iconst (-1), 1) := dk_2 (dk_at dksX10_matchings_2 21 rfl rfl)
theorem dX10_matchings_70 : decode cX10_matchings 70 = .ok (.ixor, 1) := dk_130 (dk_at dksX10_matchings_2 22 rfl rfl)
theorem dX10_matchings_71 : decode cX10_matchings 71 = .ok (.iand, 1) := dk_126 (dk_at dksX10_matchings_2 23 rfl rfl)
theorem dX10_matchings_72 : decode cX10_matchings 72 = .ok (.invokevirtual 34, 3) := dk_182 0 34 (dk_at dksX10_matchings_3 0 rfl rfl)
theorem dX10_matchings_75 : decode cX10_matchings 75 = .ok (.i2l, 1) := dk_133 (dk_at dksX10_matchings_3 3 rfl rfl)
theorem dX10_matchings_76 : decode cX10_matchings 76 = .ok (.lmul, 1) := dk_105 (dk_at dksX10_matchings_3 4 rfl rfl)
theorem dX10_matchings_77 : decode cX10_matchings 77 = .ok (.ladd, 1) := dk_97 (dk_at dksX10_matchings_3 5 rfl rfl)
theorem dX10_matchings_78 : decode cX10_matchings 78 = .ok (.lstore_n 3, 1) := dk_66 (dk_at dksX10_matchings_3 6 rfl rfl)
theorem dX10_matchings_79 : decode cX10_matchings 79 = .ok (.iinc 5 1, 3) := dk_132 5 1 (dk_at dksX10_matchings_3 7 rfl rfl)
theorem dX10_matchings_82 : decode cX10_matchings 82 = .ok (.goto (-64), 3) := dk_167 255 192 (dk_at dksX10_matchings_3 10 rfl rfl)
theorem dX10_matchings_85 : decode cX10_matchings 85 = .ok (.aload_n 0, 1) := dk_42 (dk_at dksX10_matchings_3 13 rfl rfl)
theorem dX10_matchings_86 : decode cX10_matchings 86 = .ok (.getfield 16, 3) := dk_180 0 16 (dk_at dksX10_matchings_3 14 rfl rfl)
theorem dX10_matchings_89 : decode cX10_matchings 89 = .ok (.lload_n 3, 1) := dk_33 (dk_at dksX10_matchings_3 17 rfl rfl)
theorem dX10_matchings_90 : decode cX10_matchings 90 = .ok (.invokevirtual 37, 3) := dk_182 0 37 (dk_at dksX10_matchings_3 18 rfl rfl)
theorem dX10_matchings_93 : decode cX10_matchings 93 = .ok (.ireturn, 1) := dk_172 (dk_at dksX10_matchings_3 21 rfl rfl)
def dkwX11_init_0 : List UInt8 := [42, 43, 28, 183, 0, 1, 42, 45, 181, 0, 7, 177]
abbrev dktX11_init_0 : List UInt8 := dkwX11_init_0 ++ []
theorem dksX11_init_0 : cX11_init.data.toList.drop 0 = dktX11_init_0 := by decide +kernel
theorem dX11_init_0 : decode cX11_init 0 = .ok (.aload_n 0, 1) := dk_42 (dk_at dksX11_init_0 0 rfl rfl)
theorem dX11_init_1 : decode cX11_init 1 = .ok (.aload_n 1, 1) := dk_43 (dk_at dksX11_init_0 1 rfl rfl)
theorem dX11_init_2 : decode cX11_init 2 = .ok (.iload_n 2, 1) := dk_28 (dk_at dksX11_init_0 2 rfl rfl)
theorem dX11_init_3 : decode cX11_init 3 = .ok (.invokespecial 1, 3) := dk_183 0 1 (dk_at dksX11_init_0 3 rfl rfl)
theorem dX11_init_6 : decode cX11_init 6 = .ok (.aload_n 0, 1) := dk_42 (dk_at dksX11_init_0 6 rfl rfl)
theorem dX11_init_7 : decode cX11_init 7 = .ok (.aload_n 3, 1) := dk_45 (dk_at dksX11_init_0 7 rfl rfl)
theorem dX11_init_8 : decode cX11_init 8 = .ok (.putfield 7, 3) := dk_181 0 7 (dk_at dksX11_init_0 8 rfl rfl)
theorem dX11_init_11 : decode cX11_init 11 = .ok (.return_, 1) := dk_177 (dk_at dksX11_init_0 11 rfl rfl)
def dkwX12_init_0 : List UInt8 := [42, 43, 28, 183, 0, 1, 42, 45, 181, 0, 7, 177]
abbrev dktX12_init_0 : List UInt8 := dkwX12_init_0 ++ []
theorem dksX12_init_0 : cX12_init.data.toList.drop 0 = dktX12_init_0 := by decide +kernel
theorem dX12_init_0 : decode cX12_init 0 = .ok (.aload_n 0, 1) := dk_42 (dk_at dksX12_init_0 0 rfl rfl)
theorem dX12_init_1 : decode cX12_init 1 = .ok (.aload_n 1, 1) := dk_43 (dk_at dksX12_init_0 1 rfl rfl)
theorem dX12_init_2 : decode cX12_init 2 = .ok (.iload_n 2, 1) := dk_28 (dk_at dksX12_init_0 2 rfl rfl)
theorem dX12_init_3 : decode cX12_init 3 = .ok (.invokespecial 1, 3) := dk_183 0 1 (dk_at dksX12_init_0 3 rfl rfl)
theorem dX12_init_6 : decode cX12_init 6 = .ok (.aload_n 0, 1) := dk_42 (dk_at dksX12_init_0 6 rfl rfl)
theorem dX12_init_7 : decode cX12_init 7 = .ok (.aload_n 3, 1) := dk_45 (dk_at dksX12_init_0 7 rfl rfl)
theorem dX12_init_8 : decode cX12_init 8 = .ok (.putfield 7, 3) := dk_181 0 7 (dk_at dksX12_init_0 8 rfl rfl)
theorem dX12_init_11 : decode cX12_init 11 = .ok (.return_, 1) := dk_177 (dk_at dksX12_init_0 11 rfl rfl)
def dkwX13_init_1 : List UInt8 := [181, 0, 19, 177]
abbrev dktX13_init_1 : List UInt8 := dkwX13_init_1 ++ []
def dkwX13_init_0 : List UInt8 := [42, 183, 0, 1, 42, 27, 181, 0, 7, 42, 28, 181, 0, 13, 42, 29, 181, 0, 16, 42, 21, 4]
abbrev dktX13_init_0 : List UInt8 := dkwX13_init_0 ++ dktX13_init_1
theorem dksX13_init_0 : cX13_init.data.toList.drop 0 = dktX13_init_0 := by decide +kernel
theorem dksX13_init_1 : cX13_init.data.toList.drop 22 = dktX13_init_1 := dk_seg dksX13_init_0 22 rfl rfl
theorem dX13_init_0 : decode cX13_init 0 = .ok (.aload_n 0, 1) := dk_42 (dk_at dksX13_init_0 0 rfl rfl)
theorem dX13_init_1 : decode cX13_init 1 = .ok (.invokespecial 1, 3) := dk_183 0 1 (dk_at dksX13_init_0 1 rfl rfl)
theorem dX13_init_4 : decode cX13_init 4 = .ok (.aload_n 0, 1) := dk_42 (dk_at dksX13_init_0 4 rfl rfl)
theorem dX13_init_5 : decode cX13_init 5 = .ok (.iload_n 1, 1) := dk_27 (dk_at dksX13_init_0 5 rfl rfl)
theorem dX13_init_6 : decode cX13_init 6 = .ok (.putfield 7, 3) := dk_181 0 7 (dk_at dksX13_init_0 6 rfl rfl)
theorem dX13_init_9 : decode cX13_init 9 = .ok (.aload_n 0, 1) := dk_42 (dk_at dksX13_init_0 9 rfl rfl)
theorem dX13_init_10 : decode cX13_init 10 = .ok (.iload_n 2, 1) := dk_28 (dk_at dksX13_init_0 10 rfl rfl)
theorem dX13_init_11 : decode cX13_init 11 = .ok (.putfield 13, 3) := dk_181 0 13 (dk_at dksX13_init_0 11 rfl rfl)
theorem dX13_init_14 : decode cX13_init 14 = .ok (.aload_n 0, 1) := dk_42 (dk_at dksX13_init_0 14 rfl rfl)
theorem dX13_init_15 : decode cX13_init 15 = .ok (.iload_n 3, 1) := dk_29 (dk_at dksX13_init_0 15 rfl rfl)
theorem dX13_init_16 : decode cX13_init 16 = .ok (.putfield 16, 3) := dk_181 0 16 (dk_at dksX13_init_0 16 rfl rfl)
theorem dX13_init_19 : decode cX13_init 19 = .ok (.aload_n 0, 1) := dk_42 (dk_at dksX13_init_0 19 rfl rfl)
theorem dX13_init_20 : decode cX13_init 20 = .ok (.iload 4, 2) := dk_21 4 (dk_at dksX13_init_0 20 rfl rfl)
theorem dX13_init_22 : decode cX13_init 22 = .ok (.putfield 19, 3) := dk_181 0 19 (dk_at dksX13_init_1 0 rfl rfl)
theorem dX13_init_25 : decode cX13_init 25 = .ok (.return_, 1) := dk_177 (dk_at dksX13_init_1 3 rfl rfl)
theorem dX13_node_0 : decode cX13_node 0 = .ok (.aload_n 0, 1) := by decide +kernel
theorem dX13_node_1 : decode cX13_node 1 = .ok (.getfield 7, 3) := by decide +kernel
theorem dX13_node_4 : decode cX13_node 4 = .ok (.ireturn, 1) := by decide +kernel
theorem dX13_leg_0 : decode cX13_leg 0 = .ok (.aload_n 0, 1) := by decide +kernel
theorem dX13_leg_1 : decode cX13_leg 1 = .ok (.getfield 13, 3) := by decide +kernel
theorem dX13_leg_4 : decode cX13_leg 4 = .ok (.ireturn, 1) := by decide +kernel
theorem dX13_other_0 : decode cX13_other 0 = .ok (.aload_n 0, 1) := by decide +kernel
theorem dX13_other_1 : decode cX13_other 1 = .ok (.getfield 16, 3) := by decide +kernel
theorem dX13_other_4 : decode cX13_other 4 = .ok (.ireturn, 1) := by decide +kernel
theorem dX13_otherLeg_0 : decode cX13_otherLeg 0 = .ok (.aload_n 0, 1) := by decide +kernel
theorem dX13_otherLeg_1 : decode cX13_otherLeg 1 = .ok (.getfield 19, 3) := by decide +kernel
theorem dX13_otherLeg_4 : decode cX13_otherLeg 4 = .ok (.ireturn, 1) := by decide +kernel
def dkwX14_init_5 : List UInt8 := [167, 255, 196, 177]
abbrev dktX14_init_5 : List UInt8 := dkwX14_init_5 ++ []
def dkwX14_init_4 : List UInt8 := [21, 5, 184, 0, 36, 21, 4, 21, 6, 184, 0, 36, 128, 46, 79, 132, 6, 1, 167, 255, 215, 132, 5, 1]
abbrev dktX14_init_4 : List UInt8 := dkwX14_init_4 ++ dktX14_init_5
def dkwX14_init_3 : List UInt8 := [21, 6, 42, 180, 0, 25, 162, 0, 38, 42, 180, 0, 30, 21, 5, 50, 21, 6, 44, 180, 0, 33, 29]
abbrev dktX14_init_3 : List UInt8 := dkwX14_init_3 ++ dktX14_init_4
def dkwX14_init_2 : List UInt8 := [197, 0, 28, 2, 181, 0, 30, 3, 54, 5, 21, 5, 42, 180, 0, 30, 190, 162, 0, 56, 3, 54, 6]
abbrev dktX14_init_2 : List UInt8 := dkwX14_init_2 ++ dktX14_init_3
def dkwX14_init_1 : List UInt8 := [4, 178, 0, 19, 21, 4, 46, 120, 181, 0, 25, 42, 4, 178, 0, 19, 29, 46, 120, 42, 180, 0, 25]
abbrev dktX14_init_1 : List UInt8 := dkwX14_init_1 ++ dktX14_init_2
def dkwX14_init_0 : List UInt8 := [42, 43, 181, 0, 1, 42, 183, 0, 7, 4, 44, 180, 0, 13, 120, 4, 100, 29, 2, 130, 126, 54, 4, 42]
abbrev dktX14_init_0 : List UInt8 := dkwX14_init_0 ++ dktX14_init_1
theorem dksX14_init_0 : cX14_init.data.toList.drop 0 = dktX14_init_0 := by decide +kernel
theorem dksX14_init_1 : cX14_init.data.toList.drop 24 = dktX14_init_1 := dk_seg dksX14_init_0 24 rfl rfl
theorem dksX14_init_2 : cX14_init.data.toList.drop 47 = dktX14_init_2 := dk_seg dksX14_init_1 23 rfl rfl
theorem dksX14_init_3 : cX14_init.data.toList.drop 70 = dktX14_init_3 := dk_seg dksX14_init_2 23 rfl rfl
theorem dksX14_init_4 : cX14_init.data.toList.drop 93 = dktX14_init_4 := dk_seg dksX14_init_3 23 rfl rfl
theorem dksX14_init_5 : cX14_init.data.toList.drop 117 = dktX14_init_5 := dk_seg dksX14_init_4 24 rfl rfl
theorem dX14_init_0 : decode cX14_init 0 = .ok (.aload_n 0, 1) := dk_42 (dk_at dksX14_init_0 0 rfl rfl)
theorem dX14_init_1 : decode cX14_init 1 = .ok (.aload_n 1, 1) := dk_43 (dk_at dksX14_init_0 1 rfl rfl)
theorem dX14_init_2 : decode cX14_init 2 = .ok (.putfield 1, 3) := dk_181 0 1 (dk_at dksX14_init_0 2 rfl rfl)
theorem dX14_init_5 : decode cX14_init 5 = .ok (.aload_n 0, 1) := dk_42 (dk_at dksX14_init_0 5 rfl rfl)
theorem dX14_init_6 : decode cX14_init 6 = .ok (.invokespecial 7, 3) := dk_183 0 7 (dk_at dksX14_init_0 6 rfl rfl)
theorem dX14_init_9 : decode cX14_init 9 = .ok (.iconst 1, 1) := dk_4 (dk_at dksX14_init_0 9 rfl rfl)
theorem dX14_init_10 : decode cX14_init 10 = .ok (.aload_n 2, 1) := dk_44 (dk_at dksX14_init_0 10 rfl rfl)
theorem dX14_init_11 : decode cX14_init 11 = .ok (.getfield 13, 3) := dk_180 0 13 (dk_at dksX14_init_0 11 rfl rfl)
theorem dX14_init_14 : decode cX14_init 14 = .ok (.ishl, 1) := dk_120 (dk_at dksX14_init_0 14 rfl rfl)
theorem dX14_init_15 : decode cX14_init 15 = .ok (.iconst 1, 1) := dk_4 (dk_at dksX14_init_0 15 rfl rfl)
theorem dX14_init_16 : decode cX14_init 16 = .ok (.isub, 1) := dk_100 (dk_at dksX14_init_0 16 rfl rfl)
theorem dX14_init_17 : decode cX14_init 17 = .ok (.iload_n 3, 1) := dk_29 (dk_at dksX14_init_0 17 rfl rfl)
theorem dX14_init_18 : decode cX14_init 18 = .ok (.iconst (-1), 1) := dk_2 (dk_at dksX14_init_0 18 rfl rfl)
theorem dX14_init_19 : decode cX14_init 19 = .ok (.ixor, 1) := dk_130 (dk_at dksX14_init_0 19 rfl rfl)
theorem dX14_init_20 : decode cX14_init 20 = .ok (.iand, 1) := dk_126 (dk_at dksX14_init_0 20 rfl rfl)
theorem dX14_init_21 : decode cX14_init 21 = .ok (.istore 4, 2) := dk_54 4 (dk_at dksX14_init_0 21 rfl rfl)
theorem dX14_init_23 : decode cX14_init 23 = .ok (.aload_n 0, 1) := dk_42 (dk_at dksX14_init_0 23 rfl rfl)
theorem dX14_init_24 : decode cX14_init 24 = .ok (.iconst 1, 1) := dk_4 (dk_at dksX14_init_1 0 rfl rfl)
theorem dX14_init_25 : decode cX14_init 25 = .ok (.getstatic 19, 3) := dk_178 0 19 (dk_at dksX14_init_1 1 rfl rfl)
theorem dX14_init_28 : decode cX14_init 28 = .ok (.iload 4, 2) := dk_21 4 (dk_at dksX14_init_1 4 rfl rfl)
theorem dX14_init_30 : decode cX14_init 30 = .ok (.iaload, 1) := dk_46 (dk_at dksX14_init_1 6 rfl rfl)
theorem dX14_init_31 : decode cX14_init 31 = .ok (.ishl, 1) := dk_120 (dk_at dksX14_init_1 7 rfl rfl)
theorem dX14_init_32 : decode cX14_init 32 = .ok (.putfield 25, 3) := dk_181 0 25 (dk_at dksX14_init_1 8 rfl rfl)
theorem dX14_init_35 : decode cX14_init 35 = .ok (.aload_n 0, 1) := dk_42 (dk_at dksX14_init_1 11 rfl rfl)
theorem dX14_init_36 : decode cX14_init 36 = .ok (.iconst 1, 1) := dk_4 (dk_at dksX14_init_1 12 rfl rfl)
theorem dX14_init_37 : decode cX14_init 37 = .ok (.getstatic 19, 3) := dk_178 0 19 (dk_at dksX14_init_1 13 rfl rfl)
theorem dX14_init_40 : decode cX14_init 40 = .ok (.iload_n 3, 1) := dk_29 (dk_at dksX14_init_1 16 rfl rfl)
theorem dX14_init_41 : decode cX14_init 41 = .ok (.iaload, 1) := dk_46 (dk_at dksX14_init_1 17 rfl rfl)
theorem dX14_init_42 : decode cX14_init 42 = .ok (.ishl, 1) := dk_120 (dk_at dksX14_init_1 18 rfl rfl)
theorem dX14_init_43 : decode cX14_init 43 = .ok (.aload_n 0, 1) := dk_42 (dk_at dksX14_init_1 19 rfl rfl)
theorem dX14_init_44 : decode cX14_init 44 = .ok (.getfield 25, 3) := dk_180 0 25 (dk_at dksX14_init_1 20 rfl rfl)
theorem dX14_init_47 : decode cX14_init 47 = .ok (.multianewarray 28 2, 4) := by decide +kernel
theorem dX14_init_51 : decode cX14_init 51 = .ok (.putfield 30, 3) := dk_181 0 30 (dk_at dksX14_init_2 4 rfl rfl)
theorem dX14_init_54 : decode cX14_init 54 = .ok (.iconst 0, 1) := dk_3 (dk_at dksX14_init_2 7 rfl rfl)
theorem dX14_init_55 : decode cX14_init 55 = .ok (.istore 5, 2) := dk_54 5 (dk_at dksX14_init_2 8 rfl rfl)
theorem dX14_init_57 : decode cX14_init 57 = .ok (.iload 5, 2) := dk_21 5 (dk_at dksX14_init_2 10 rfl rfl)
theorem dX14_init_59 : decode cX14_init 59 = .ok (.aload_n 0, 1) := dk_42 (dk_at dksX14_init_2 12 rfl rfl)
theorem dX14_init_60 : decode cX14_init 60 = .ok (.getfield 30, 3) := dk_180 0 30 (dk_at dksX14_init_2 13 rfl rfl)
theorem dX14_init_63 : decode cX14_init 63 = .ok (.arraylength, 1) := dk_190 (dk_at dksX14_init_2 16 rfl rfl)
theorem dX14_init_64 : decode cX14_init 64 = .ok (.if_icmp .ge 56, 3) := dk_162 0 56 (dk_at dksX14_init_2 17 rfl rfl)
theorem dX14_init_67 : decode cX14_init 67 = .ok (.iconst 0, 1) := dk_3 (dk_at dksX14_init_2 20 rfl rfl)
theorem dX14_init_68 : decode cX14_init 68 = .ok (.istore 6, 2) := dk_54 6 (dk_at dksX14_init_2 21 rfl rfl)
theorem dX14_init_70 : decode cX14_init 70 = .ok (.iload 6, 2) := dk_21 6 (dk_at dksX14_init_3 0 rfl rfl)
theorem dX14_init_72 : decode cX14_init 72 = .ok (.aload_n 0, 1) := dk_42 (dk_at dksX14_init_3 2 rfl rfl)
theorem dX14_init_73 : decode cX14_init 73 = .ok (.getfield 25, 3) := dk_180 0 25 (dk_at dksX14_init_3 3 rfl rfl)
theorem dX14_init_76 : decode cX14_init 76 = .ok (.if_icmp .ge 38, 3) := dk_162 0 38 (dk_at dksX14_init_3 6 rfl rfl)
theorem dX14_init_79 : decode cX14_init 79 = .ok (.aload_n 0, 1) := dk_42 (dk_at dksX14_init_3 9 rfl rfl)
theorem dX14_init_80 : decode cX14_init 80 = .ok (.getfield 30, 3) := dk_180 0 30 (dk_at dksX14_init_3 10 rfl rfl)
theorem dX14_init_83 : decode cX14_init 83 = .ok (.iload 5, 2) := dk_21 5 (dk_at dksX14_init_3 13 rfl rfl)
theorem dX14_init_85 : decode cX14_init 85 = .ok (.aaload, 1) := dk_50 (dk_at dksX14_init_3 15 rfl rfl)
theorem dX14_init_86 : decode cX14_init 86 = .ok (.iload 6, 2) := dk_21 6 (dk_at dksX14_init_3 16 rfl rfl)
theorem dX14_init_88 : decode cX14_init 88 = .ok (.aload_n 2, 1) := dk_44 (dk_at dksX14_init_3 18 rfl rfl)
theorem dX14_init_89 : decode cX14_init 89 = .ok (.getfield 33, 3) := dk_180 0 33 (dk_at dksX14_init_3 19 rfl rfl)
theorem dX14_init_92 : decode cX14_init 92 = .ok (.iload_n 3, 1) := dk_29 (dk_at dksX14_init_3 22 rfl rfl)
theorem dX14_init_93 : decode cX14_init 93 = .ok (.iload 5, 2) := dk_21 5 (dk_at dksX14_init_4 0 rfl rfl)
theorem dX14_init_95 : decode cX14_init 95 = .ok (.invokestatic 36, 3) := dk_184 0 36 (dk_at dksX14_init_4 2 rfl rfl)
theorem dX14_init_98 : decode cX14_init 98 = .ok (.iload 4, 2) := dk_21 4 (dk_at dksX14_init_4 5 rfl rfl)
theorem dX14_init_100 : decode cX14_init 100 = .ok (.iload 6, 2) := dk_21 6 (dk_at dksX14_init_4 7 rfl rfl)
theorem dX14_init_102 : decode cX14_init 102 = .ok (.invokestatic 36, 3) := dk_184 0 36 (dk_at dksX14_init_4 9 rfl rfl)
theorem dX14_init_105 : decode cX14_init 105 = .ok (.ior, 1) := dk_128 (dk_at dksX14_init_4 12 rfl rfl)
theorem dX14_init_106 : decode cX14_init 106 = .ok (.iaload, 1) := dk_46 (dk_at dksX14_init_4 13 rfl rfl)
theorem dX14_init_107 : decode cX14_init 107 = .ok (.iastore, 1) := dk_79 (dk_at dksX14_init_4 14 rfl rfl)
theorem dX14_init_108 : decode cX14_init 108 = .ok (.iinc 6 1, 3) := dk_132 6 1 (dk_at dksX14_init_4 15 rfl rfl)
theorem dX14_init_111 : decode cX14_init 111 = .ok (.goto (-41), 3) := dk_167 255 215 (dk_at dksX14_init_4 18 rfl rfl)
theorem dX14_init_114 : decode cX14_init 114 = .ok (.iinc 5 1, 3) := dk_132 5 1 (dk_at dksX14_init_4 21 rfl rfl)
theorem dX14_init_117 : decode cX14_init 117 = .ok (.goto (-60), 3) := dk_167 255 196 (dk_at dksX14_init_5 0 rfl rfl)
theorem dX14_init_120 : decode cX14_init 120 = .ok (.return_, 1) := dk_177 (dk_at dksX14_init_5 3 rfl rfl)
def dkwX14_rank_5 : List UInt8 := [132, 5, 1, 167, 255, 229, 132, 1, 1, 132, 2, 1, 167, 255, 130, 27, 172]
abbrev dktX14_rank_5 : List UInt8 := dkwX14_rank_5 ++ []
def dkwX14_rank_4 : List UInt8 := [21, 5, 42, 180, 0, 30, 190, 162, 0, 23, 42, 42, 180, 0, 30, 21, 5, 50, 25, 4, 28, 182, 0, 40]
abbrev dktX14_rank_4 : List UInt8 := dkwX14_rank_4 ++ dktX14_rank_5
def dkwX14_rank_3 : List UInt8 := [180, 0, 30, 29, 42, 180, 0, 30, 27, 50, 83, 42, 180, 0, 30, 27, 25, 4, 83, 27, 4, 96, 54, 5]
abbrev dktX14_rank_3 : List UInt8 := dkwX14_rank_3 ++ dktX14_rank_4
def dkwX14_rank_2 : List UInt8 := [167, 255, 233, 29, 42, 180, 0, 30, 190, 160, 0, 6, 167, 0, 69, 42, 180, 0, 30, 29, 50, 58, 4, 42]
abbrev dktX14_rank_2 : List UInt8 := dkwX14_rank_2 ++ dktX14_rank_3
def dkwX14_rank_1 : List UInt8 := [42, 180, 0, 30, 190, 162, 0, 20, 42, 180, 0, 30, 29, 50, 28, 46, 154, 0, 9, 132, 3, 1]
abbrev dktX14_rank_1 : List UInt8 := dkwX14_rank_1 ++ dktX14_rank_2
def dkwX14_rank_0 : List UInt8 := [3, 60, 3, 61, 28, 42, 180, 0, 25, 162, 0, 124, 27, 42, 180, 0, 30, 190, 162, 0, 115, 27, 62, 29]
abbrev dktX14_rank_0 : List UInt8 := dkwX14_rank_0 ++ dktX14_rank_1
theorem dksX14_rank_0 : cX14_rank.data.toList.drop 0 = dktX14_rank_0 := by decide +kernel
theorem dksX14_rank_1 : cX14_rank.data.toList.drop 24 = dktX14_rank_1 := dk_seg dksX14_rank_0 24 rfl rfl
theorem dksX14_rank_2 : cX14_rank.data.toList.drop 46 = dktX14_rank_2 := dk_seg dksX14_rank_1 22 rfl rfl
theorem dksX14_rank_3 : cX14_rank.data.toList.drop 70 = dktX14_rank_3 := dk_seg dksX14_rank_2 24 rfl rfl
theorem dksX14_rank_4 : cX14_rank.data.toList.drop 94 = dktX14_rank_4 := dk_seg dksX14_rank_3 24 rfl rfl
theorem dksX14_rank_5 : cX14_rank.data.toList.drop 118 = dktX14_rank_5 := dk_seg dksX14_rank_4 24 rfl rfl
theorem dX14_rank_0 : decode cX14_rank 0 = .ok (.iconst 0, 1) := dk_3 (dk_at dksX14_rank_0 0 rfl rfl)
theorem dX14_rank_1 : decode cX14_rank 1 = .ok (.istore_n 1, 1) := dk_60 (dk_at dksX14_rank_0 1 rfl rfl)
theorem dX14_rank_2 : decode cX14_rank 2 = .ok (.iconst 0, 1) := dk_3 (dk_at dksX14_rank_0 2 rfl rfl)
theorem dX14_rank_3 : decode cX14_rank 3 = .ok (.istore_n 2, 1) := dk_61 (dk_at dksX14_rank_0 3 rfl rfl)
theorem dX14_rank_4 : decode cX14_rank 4 = .ok (.iload_n 2, 1) := dk_28 (dk_at dksX14_rank_0 4 rfl rfl)
theorem dX14_rank_5 : decode cX14_rank 5 = .ok (.aload_n 0, 1) := dk_42 (dk_at dksX14_rank_0 5 rfl rfl)
theorem dX14_rank_6 : decode cX14_rank 6 = .ok (.getfield 25, 3) := dk_180 0 25 (dk_at dksX14_rank_0 6 rfl rfl)
theorem dX14_rank_9 : decode cX14_rank 9 = .ok (.if_icmp .ge 124, 3) := dk_162 0 124 (dk_at dksX14_rank_0 9 rfl rfl)
theorem dX14_rank_12 : decode cX14_rank 12 = .ok (.iload_n 1, 1) := dk_27 (dk_at dksX14_rank_0 12 rfl rfl)
theorem dX14_rank_13 : decode cX14_rank 13 = .ok (.aload_n 0, 1) := dk_42 (dk_at dksX14_rank_0 13 rfl rfl)
theorem dX14_rank_14 : decode cX14_rank 14 = .ok (.getfield 30, 3) := dk_180 0 30 (dk_at dksX14_rank_0 14 rfl rfl)
theorem dX14_rank_17 : decode cX14_rank 17 = .ok (.arraylength, 1) := dk_190 (dk_at dksX14_rank_0 17 rfl rfl)
theorem dX14_rank_18 : decode cX14_rank 18 = .ok (.if_icmp .ge 115, 3) := dk_162 0 115 (dk_at dksX14_rank_0 18 rfl rfl)
theorem dX14_rank_21 : decode cX14_rank 21 = .ok (.iload_n 1, 1) := dk_27 (dk_at dksX14_rank_0 21 rfl rfl)
theorem dX14_rank_22 : decode cX14_rank 22 = .ok (.istore_n 3, 1) := dk_62 (dk_at dksX14_rank_0 22 rfl rfl)
theorem dX14_rank_23 : decode cX14_rank 23 = .ok (.iload_n 3, 1) := dk_29 (dk_at dksX14_rank_0 23 rfl rfl)
theorem dX14_rank_24 : decode cX14_rank 24 = .ok (.aload_n 0, 1) := dk_42 (dk_at dksX14_rank_1 0 rfl rfl)
theorem dX14_rank_25 : decode cX14_rank 25 = .ok (.getfield 30, 3) := dk_180 0 30 (dk_at dksX14_rank_1 1 rfl rfl)
theorem dX14_rank_28 : decode cX14_rank 28 = .ok (.arraylength, 1) := dk_190 (dk_at dksX14_rank_1 4 rfl rfl)
theorem dX14_rank_29 : decode cX14_rank 29 = .ok (.if_icmp .ge 20, 3) := dk_162 0 20 (dk_at dksX14_rank_1 5 rfl rfl)
theorem dX14_rank_32 : decode cX14_rank 32 = .ok (.aload_n 0, 1) := dk_42 (dk_at dksX14_rank_1 8 rfl rfl)
theorem dX14_rank_33 : decode cX14_rank 33 = .ok (.getfield 30, 3) := dk_180 0 30 (dk_at dksX14_rank_1 9 rfl rfl)
theorem dX14_rank_36 : decode cX14_rank 36 = .ok (.iload_n 3, 1) := dk_29 (dk_at dksX14_rank_1 12 rfl rfl)
theorem dX14_rank_37 : decode cX14_rank 37 = .ok (.aaload, 1) := dk_50 (dk_at dksX14_rank_1 13 rfl rfl)
theorem dX14_rank_38 : decode cX14_rank 38 = .ok (.iload_n 2, 1) := dk_28 (dk_at dksX14_rank_1 14 rfl rfl)
theorem dX14_rank_39 : decode cX14_rank 39 = .ok (.iaload, 1) := dk_46 (dk_at dksX14_rank_1 15 rfl rfl)
theorem dX14_rank_40 : decode cX14_rank 40 = .ok (.ifCond .ne 9, 3) := dk_154 0 9 (dk_at dksX14_rank_1 16 rfl rfl)
theorem dX14_rank_43 : decode cX14_rank 43 = .ok (.iinc 3 1, 3) := dk_132 3 1 (dk_at dksX14_rank_1 19 rfl rfl)
theorem dX14_rank_46 : decode cX14_rank 46 = .ok (.goto (-23), 3) := dk_167 255 233 (dk_at dksX14_rank_2 0 rfl rfl)
theorem dX14_rank_49 : decode cX14_rank 49 = .ok (.iload_n 3, 1) := dk_29 (dk_at dksX14_rank_2 3 rfl rfl)
theorem dX14_rank_50 : decode cX14_rank 50 = .ok (.aload_n 0, 1) := dk_42 (dk_at dksX14_rank_2 4 rfl rfl)
theorem dX14_rank_51 : decode cX14_rank 51 = .ok (.getfield 30, 3) := dk_180 0 30 (dk_at dksX14_rank_2 5 rfl rfl)
theorem dX14_rank_54 : decode cX14_rank 54 = .ok (.arraylength, 1) := dk_190 (dk_at dksX14_rank_2 8 rfl rfl)
theorem dX14_rank_55 : decode cX14_rank 55 = .ok (.if_icmp .ne 6, 3) := dk_160 0 6 (dk_at dksX14_rank_2 9 rfl rfl)
theorem dX14_rank_58 : decode cX14_rank 58 = .ok (.goto 69, 3) := dk_167 0 69 (dk_at dksX14_rank_2 12 rfl rfl)
theorem dX14_rank_61 : decode cX14_rank 61 = .ok (.aload_n 0, 1) := dk_42 (dk_at dksX14_rank_2 15 rfl rfl)
theorem dX14_rank_62 : decode cX14_rank 62 = .ok (.getfield 30, 3) := dk_180 0 30 (dk_at dksX14_rank_2 16 rfl rfl)
theorem dX14_rank_65 : decode cX14_rank 65 = .ok (.iload_n 3, 1) := dk_29 (dk_at dksX14_rank_2 19 rfl rfl)
theorem dX14_rank_66 : decode cX14_rank 66 = .ok (.aaload, 1) := dk_50 (dk_at dksX14_rank_2 20 rfl rfl)
theorem dX14_rank_67 : decode cX14_rank 67 = .ok (.astore 4, 2) := dk_58 4 (dk_at dksX14_rank_2 21 rfl rfl)
theorem dX14_rank_69 : decode cX14_rank 69 = .ok (.aload_n 0, 1) := dk_42 (dk_at dksX14_rank_2 23 rfl rfl)
theorem dX14_rank_70 : decode cX14_rank 70 = .ok (.getfield 30, 3) := dk_180 0 30 (dk_at dksX14_rank_3 0 rfl rfl)
theorem dX14_rank_73 : decode cX14_rank 73 = .ok (.iload_n 3, 1) := dk_29 (dk_at dksX14_rank_3 3 rfl rfl)
theorem dX14_rank_74 : decode cX14_rank 74 = .ok (.aload_n 0, 1) := dk_42 (dk_at dksX14_rank_3 4 rfl rfl)
theorem dX14_rank_75 : decode cX14_rank 75 = .ok (.getfield 30, 3) := dk_180 0 30 (dk_at dksX14_rank_3 5 rfl rfl)
theorem dX14_rank_78 : decode cX14_rank 78 = .ok (.iload_n 1, 1) := dk_27 (dk_at dksX14_rank_3 8 rfl rfl)
theorem dX14_rank_79 : decode cX14_rank 79 = .ok (.aaload, 1) := dk_50 (dk_at dksX14_rank_3 9 rfl rfl)
theorem dX14_rank_80 : decode cX14_rank 80 = .ok (.aastore, 1) := dk_83 (dk_at dksX14_rank_3 10 rfl rfl)
theorem dX14_rank_81 : decode cX14_rank 81 = .ok (.aload_n 0, 1) := dk_42 (dk_at dksX14_rank_3 11 rfl rfl)
theorem dX14_rank_82 : decode cX14_rank 82 = .ok (.getfield 30, 3) := dk_180 0 30 (dk_at dksX14_rank_3 12 rfl rfl)
theorem dX14_rank_85 : decode cX14_rank 85 = .ok (.iload_n 1, 1) := dk_27 (dk_at dksX14_rank_3 15 rfl rfl)
theorem dX14_rank_86 : decode cX14_rank 86 = .ok (.aload 4, 2) := dk_25 4 (dk_at dksX14_rank_3 16 rfl rfl)
theorem dX14_rank_88 : decode cX14_rank 88 = .ok (.aastore, 1) := dk_83 (dk_at dksX14_rank_3 18 rfl rfl)
theorem dX14_rank_89 : decode cX14_rank 89 = .ok (.iload_n 1, 1) := dk_27 (dk_at dksX14_rank_3 19 rfl rfl)
theorem dX14_rank_90 : decode cX14_rank 90 = .ok (.iconst 1, 1) := dk_4 (dk_at dksX14_rank_3 20 rfl rfl)
theorem dX14_rank_91 : decode cX14_rank 91 = .ok (.iadd, 1) := dk_96 (dk_at dksX14_rank_3 21 rfl rfl)
theorem dX14_rank_92 : decode cX14_rank 92 = .ok (.istore 5, 2) := dk_54 5 (dk_at dksX14_rank_3 22 rfl rfl)
theorem dX14_rank_94 : decode cX14_rank 94 = .ok (.iload 5, 2) := dk_21 5 (dk_at dksX14_rank_4 0 rfl rfl)
theorem dX14_rank_96 : decode cX14_rank 96 = .ok (.aload_n 0, 1) := dk_42 (dk_at dksX14_rank_4 2 rfl rfl)
theorem dX14_rank_97 : decode cX14_rank 97 = .ok (.getfield 30, 3) := dk_180 0 30 (dk_at dksX14_rank_4 3 rfl rfl)
theorem dX14_rank_100 : decode cX14_rank 100 = .ok (.arraylength, 1) := dk_190 (dk_at dksX14_rank_4 6 rfl rfl)
theorem dX14_rank_101 : decode cX14_rank 101 = .ok (.if_icmp .ge 23, 3) := dk_162 0 23 (dk_at dksX14_rank_4 7 rfl rfl)
theorem dX14_rank_104 : decode cX14_rank 104 = .ok (.aload_n 0, 1) := dk_42 (dk_at dksX14_rank_4 10 rfl rfl)
theorem dX14_rank_105 : decode cX14_rank 105 = .ok (.aload_n 0, 1) := dk_42 (dk_at dksX14_rank_4 11 rfl rfl)
theorem dX14_rank_106 : decode cX14_rank 106 = .ok (.getfield 30, 3) := dk_180 0 30 (dk_at dksX14_rank_4 12 rfl rfl)
theorem dX14_rank_109 : decode cX14_rank 109 = .ok (.iload 5, 2) := dk_21 5 (dk_at dksX14_rank_4 15 rfl rfl)
theorem dX14_rank_111 : decode cX14_rank 111 = .ok (.aaload, 1) := dk_50 (dk_at dksX14_rank_4 17 rfl rfl)
theorem dX14_rank_112 : decode cX14_rank 112 = .ok (.aload 4, 2) := dk_25 4 (dk_at dksX14_rank_4 18 rfl rfl)
theorem dX14_rank_114 : decode cX14_rank 114 = .ok (.iload_n 2, 1) := dk_28 (dk_at dksX14_rank_4 20 rfl rfl)
theorem dX14_rank_115 : decode cX14_rank 115 = .ok (.invokevirtual 40, 3) := dk_182 0 40 (dk_at dksX14_rank_4 21 rfl rfl)
theorem dX14_rank_118 : decode cX14_rank 118 = .ok (.iinc 5 1, 3) := dk_132 5 1 (dk_at dksX14_rank_5 0 rfl rfl)
theorem dX14_rank_121 : decode cX14_rank 121 = .ok (.goto (-27), 3) := dk_167 255 229 (dk_at dksX14_rank_5 3 rfl rfl)
theorem dX14_rank_124 : decode cX14_rank 124 = .ok (.iinc 1 1, 3) := dk_132 1 1 (dk_at dksX14_rank_5 6 rfl rfl)
theorem dX14_rank_127 : decode cX14_rank 127 = .ok (.iinc 2 1, 3) := dk_132 2 1 (dk_at dksX14_rank_5 9 rfl rfl)
theorem dX14_rank_130 : decode cX14_rank 130 = .ok (.goto (-126), 3) := dk_167 255 130 (dk_at dksX14_rank_5 12 rfl rfl)
theorem dX14_rank_133 : decode cX14_rank 133 = .ok (.iload_n 1, 1) := dk_27 (dk_at dksX14_rank_5 15 rfl rfl)
theorem dX14_rank_134 : decode cX14_rank 134 = .ok (.ireturn, 1) := dk_172 (dk_at dksX14_rank_5 16 rfl rfl)
def dkwX14_clears_3 : List UInt8 := [79, 132, 5, 1, 167, 255, 215, 177]
abbrev dktX14_clears_3 : List UInt8 := dkwX14_clears_3 ++ []
def dkwX14_clears_2 : List UInt8 := [180, 0, 1, 180, 0, 44, 43, 21, 5, 46, 133, 21, 4, 133, 44, 21, 5, 46, 133, 105, 101, 182, 0, 54]
abbrev dktX14_clears_2 : List UInt8 := dkwX14_clears_2 ++ dktX14_clears_3
def dkwX14_clears_1 : List UInt8 := [133, 105, 182, 0, 54, 54, 4, 3, 54, 5, 21, 5, 42, 180, 0, 25, 162, 0, 38, 43, 21, 5, 42]
abbrev dktX14_clears_1 : List UInt8 := dkwX14_clears_1 ++ dktX14_clears_2
def dkwX14_clears_0 : List UInt8 := [42, 180, 0, 1, 180, 0, 44, 43, 29, 46, 133, 42, 180, 0, 1, 180, 0, 44, 44, 29, 46, 182, 0, 48]
abbrev dktX14_clears_0 : List UInt8 := dkwX14_clears_0 ++ dktX14_clears_1
theorem dksX14_clears_0 : cX14_clears.data.toList.drop 0 = dktX14_clears_0 := by decide +kernel
theorem dksX14_clears_1 : cX14_clears.data.toList.drop 24 = dktX14_clears_1 := dk_seg dksX14_clears_0 24 rfl rfl
theorem dksX14_clears_2 : cX14_clears.data.toList.drop 47 = dktX14_clears_2 := dk_seg dksX14_clears_1 23 rfl rfl
theorem dksX14_clears_3 : cX14_clears.data.toList.drop 71 = dktX14_clears_3 := dk_seg dksX14_clears_2 24 rfl rfl
theorem dX14_clears_0 : decode cX14_clears 0 = .ok (.aload_n 0, 1) := dk_42 (dk_at dksX14_clears_0 0 rfl rfl)
theorem dX14_clears_1 : decode cX14_clears 1 = .ok (.getfield 1, 3) := dk_180 0 1 (dk_at dksX14_clears_0 1 rfl rfl)
theorem dX14_clears_4 : decode cX14_clears 4 = .ok (.getfield 44, 3) := dk_180 0 44 (dk_at dksX14_clears_0 4 rfl rfl)
theorem dX14_clears_7 : decode cX14_clears 7 = .ok (.aload_n 1, 1) := dk_43 (dk_at dksX14_clears_0 7 rfl rfl)
theorem dX14_clears_8 : decode cX14_clears 8 = .ok (.iload_n 3, 1) := dk_29 (dk_at dksX14_clears_0 8 rfl rfl)
theorem dX14_clears_9 : decode cX14_clears 9 = .ok (.iaload, 1) := dk_46 (dk_at dksX14_clears_0 9 rfl rfl)
theorem dX14_clears_10 : decode cX14_clears 10 = .ok (.i2l, 1) := dk_133 (dk_at dksX14_clears_0 10 rfl rfl)
theorem dX14_clears_11 : decode cX14_clears 11 = .ok (.aload_n 0, 1) := dk_42 (dk_at dksX14_clears_0 11 rfl rfl)
theorem dX14_clears_12 : decode cX14_clears 12 = .ok (.getfield 1, 3) := dk_180 0 1 (dk_at dksX14_clears_0 12 rfl rfl)
theorem dX14_clears_15 : decode cX14_clears 15 = .ok (.getfield 44, 3) := dk_180 0 44 (dk_at dksX14_clears_0 15 rfl rfl)
theorem dX14_clears_18 : decode cX14_clears 18 = .ok (.aload_n 2, 1) := dk_44 (dk_at dksX14_clears_0 18 rfl rfl)
theorem dX14_clears_19 : decode cX14_clears 19 = .ok (.iload_n 3, 1) := dk_29 (dk_at dksX14_clears_0 19 rfl rfl)
theorem dX14_clears_20 : decode cX14_clears 20 = .ok (.iaload, 1) := dk_46 (dk_at dksX14_clears_0 20 rfl rfl)
theorem dX14_clears_21 : decode cX14_clears 21 = .ok (.invokevirtual 48, 3) := dk_182 0 48 (dk_at dksX14_clears_0 21 rfl rfl)
theorem dX14_clears_24 : decode cX14_clears 24 = .ok (.i2l, 1) := dk_133 (dk_at dksX14_clears_1 0 rfl rfl)
theorem dX14_clears_25 : decode cX14_clears 25 = .ok (.lmul, 1) := dk_105 (dk_at dksX14_clears_1 1 rfl rfl)
theorem dX14_clears_26 : decode cX14_clears 26 = .ok (.invokevirtual 54, 3) := dk_182 0 54 (dk_at dksX14_clears_1 2 rfl rfl)
theorem dX14_clears_29 : decode cX14_clears 29 = .ok (.istore 4, 2) := dk_54 4 (dk_at dksX14_clears_1 5 rfl rfl)
theorem dX14_clears_31 : decode cX14_clears 31 = .ok (.iconst 0, 1) := dk_3 (dk_at dksX14_clears_1 7 rfl rfl)
theorem dX14_clears_32 : decode cX14_clears 32 = .ok (.istore 5, 2) := dk_54 5 (dk_at dksX14_clears_1 8 rfl rfl)
theorem dX14_clears_34 : decode cX14_clears 34 = .ok (.iload 5, 2) := dk_21 5 (dk_at dksX14_clears_1 10 rfl rfl)
theorem dX14_clears_36 : decode cX14_clears 36 = .ok (.aload_n 0, 1) := dk_42 (dk_at dksX14_clears_1 12 rfl rfl)
theorem dX14_clears_37 : decode cX14_clears 37 = .ok (.getfield 25, 3) := dk_180 0 25 (dk_at dksX14_clears_1 13 rfl rfl)
theorem dX14_clears_40 : decode cX14_clears 40 = .ok (.if_icmp .ge 38, 3) := dk_162 0 38 (dk_at dksX14_clears_1 16 rfl rfl)
theorem dX14_clears_43 : decode cX14_clears 43 = .ok (.aload_n 1, 1) := dk_43 (dk_at dksX14_clears_1 19 rfl rfl)
theorem dX14_clears_44 : decode cX14_clears 44 = .ok (.iload 5, 2) := dk_21 5 (dk_at dksX14_clears_1 20 rfl rfl)
theorem dX14_clears_46 : decode cX14_clears 46 = .ok (.aload_n 0, 1) := dk_42 (dk_at dksX14_clears_1 22 rfl rfl)
theorem dX14_clears_47 : decode cX14_clears 47 = .ok (.getfield 1, 3) := dk_180 0 1 (dk_at dksX14_clears_2 0 rfl rfl)
theorem dX14_clears_50 : decode cX14_clears 50 = .ok (.getfield 44, 3) := dk_180 0 44 (dk_at dksX14_clears_2 3 rfl rfl)
theorem dX14_clears_53 : decode cX14_clears 53 = .ok (.aload_n 1, 1) := dk_43 (dk_at dksX14_clears_2 6 rfl rfl)
theorem dX14_clears_54 : decode cX14_clears 54 = .ok (.iload 5, 2) := dk_21 5 (dk_at dksX14_clears_2 7 rfl rfl)
theorem dX14_clears_56 : decode cX14_clears 56 = .ok (.iaload, 1) := dk_46 (dk_at dksX14_clears_2 9 rfl rfl)
theorem dX14_clears_57 : decode cX14_clears 57 = .ok (.i2l, 1) := dk_133 (dk_at dksX14_clears_2 10 rfl rfl)
theorem dX14_clears_58 : decode cX14_clears 58 = .ok (.iload 4, 2) := dk_21 4 (dk_at dksX14_clears_2 11 rfl rfl)
theorem dX14_clears_60 : decode cX14_clears 60 = .ok (.i2l, 1) := dk_133 (dk_at dksX14_clears_2 13 rfl rfl)
theorem dX14_clears_61 : decode cX14_clears 61 = .ok (.aload_n 2, 1) := dk_44 (dk_at dksX14_clears_2 14 rfl rfl)
theorem dX14_clears_62 : decode cX14_clears 62 = .ok (.iload 5, 2) := dk_21 5 (dk_at dksX14_clears_2 15 rfl rfl)
theorem dX14_clears_64 : decode cX14_clears 64 = .ok (.iaload, 1) := dk_46 (dk_at dksX14_clears_2 17 rfl rfl)
theorem dX14_clears_65 : decode cX14_clears 65 = .ok (.i2l, 1) := dk_133 (dk_at dksX14_clears_2 18 rfl rfl)
theorem dX14_clears_66 : decode cX14_clears 66 = .ok (.lmul, 1) := dk_105 (dk_at dksX14_clears_2 19 rfl rfl)
theorem dX14_clears_67 : decode cX14_clears 67 = .ok (.lsub, 1) := dk_101 (dk_at dksX14_clears_2 20 rfl rfl)
theorem dX14_clears_68 : decode cX14_clears 68 = .ok (.invokevirtual 54, 3) := dk_182 0 54 (dk_at dksX14_clears_2 21 rfl rfl)
theorem dX14_clears_71 : decode cX14_clears 71 = .ok (.iastore, 1) := dk_79 (dk_at dksX14_clears_3 0 rfl rfl)
theorem dX14_clears_72 : decode cX14_clears 72 = .ok (.iinc 5 1, 3) := dk_132 5 1 (dk_at dksX14_clears_3 1 rfl rfl)
theorem dX14_clears_75 : decode cX14_clears 75 = .ok (.goto (-41), 3) := dk_167 255 215 (dk_at dksX14_clears_3 4 rfl rfl)
theorem dX14_clears_78 : decode cX14_clears 78 = .ok (.return_, 1) := dk_177 (dk_at dksX14_clears_3 7 rfl rfl)
def dkwX15_init_1 : List UInt8 := [181, 0, 19, 177]
abbrev dktX15_init_1 : List UInt8 := dkwX15_init_1 ++ []
def dkwX15_init_0 : List UInt8 := [42, 43, 181, 0, 3, 42, 183, 0, 9, 42, 16, 6, 188, 10, 181, 0, 15, 42, 16, 6, 188, 10]
abbrev dktX15_init_0 : List UInt8 := dkwX15_init_0 ++ dktX15_init_1
theorem dksX15_init_0 : cX15_init.data.toList.drop 0 = dktX15_init_0 := by decide +kernel
theorem dksX15_init_1 : cX15_init.data.toList.drop 22 = dktX15_init_1 := dk_seg dksX15_init_0 22 rfl rfl
theorem dX15_init_0 : decode cX15_init 0 = .ok (.aload_n 0, 1) := dk_42 (dk_at dksX15_init_0 0 rfl rfl)
theorem dX15_init_1 : decode cX15_init 1 = .ok (.aload_n 1, 1) := dk_43 (dk_at dksX15_init_0 1 rfl rfl)
theorem dX15_init_2 : decode cX15_init 2 = .ok (.putfield 3, 3) := dk_181 0 3 (dk_at dksX15_init_0 2 rfl rfl)
theorem dX15_init_5 : decode cX15_init 5 = .ok (.aload_n 0, 1) := dk_42 (dk_at dksX15_init_0 5 rfl rfl)
theorem dX15_init_6 : decode cX15_init 6 = .ok (.invokespecial 9, 3) := dk_183 0 9 (dk_at dksX15_init_0 6 rfl rfl)
theorem dX15_init_9 : decode cX15_init 9 = .ok (.aload_n 0, 1) := dk_42 (dk_at dksX15_init_0 9 rfl rfl)
theorem dX15_init_10 : decode cX15_init 10 = .ok (.bipush 6, 2) := dk_16 6 (dk_at dksX15_init_0 10 rfl rfl)
theorem dX15_init_12 : decode cX15_init 12 = .ok (.newarray .int, 2) := dk_188_10 (dk_at dksX15_init_0 12 rfl rfl)
theorem dX15_init_14 : decode cX15_init 14 = .ok (.putfield 15, 3) := dk_181 0 15 (dk_at dksX15_init_0 14 rfl rfl)
theorem dX15_init_17 : decode cX15_init 17 = .ok (.aload_n 0, 1) := dk_42 (dk_at dksX15_init_0 17 rfl rfl)
theorem dX15_init_18 : decode cX15_init 18 = .ok (.bipush 6, 2) := dk_16 6 (dk_at dksX15_init_0 18 rfl rfl)
theorem dX15_init_20 : decode cX15_init 20 = .ok (.newarray .int, 2) := dk_188_10 (dk_at dksX15_init_0 20 rfl rfl)
theorem dX15_init_22 : decode cX15_init 22 = .ok (.putfield 19, 3) := dk_181 0 19 (dk_at dksX15_init_1 0 rfl rfl)
theorem dX15_init_25 : decode cX15_init 25 = .ok (.return_, 1) := dk_177 (dk_at dksX15_init_1 3 rfl rfl)
def dkwX15_opens_2 : List UInt8 := [180, 0, 3, 29, 182, 0, 38, 46, 122, 61, 132, 3, 1, 167, 255, 203, 42, 176]
abbrev dktX15_opens_2 : List UInt8 := dkwX15_opens_2 ++ []
def dkwX15_opens_1 : List UInt8 := [180, 0, 19, 29, 42, 180, 0, 3, 29, 182, 0, 38, 28, 184, 0, 42, 79, 28, 178, 0, 46, 42]
abbrev dktX15_opens_1 : List UInt8 := dkwX15_opens_1 ++ dktX15_opens_2
def dkwX15_opens_0 : List UInt8 := [27, 61, 3, 62, 29, 42, 180, 0, 3, 180, 0, 22, 180, 0, 26, 182, 0, 32, 162, 0, 42, 42]
abbrev dktX15_opens_0 : List UInt8 := dkwX15_opens_0 ++ dktX15_opens_1
theorem dksX15_opens_0 : cX15_opens.data.toList.drop 0 = dktX15_opens_0 := by decide +kernel
theorem dksX15_opens_1 : cX15_opens.data.toList.drop 22 = dktX15_opens_1 := dk_seg dksX15_opens_0 22 rfl rfl
theorem dksX15_opens_2 : cX15_opens.data.toList.drop 44 = dktX15_opens_2 := dk_seg dksX15_opens_1 22 rfl rfl
theorem dX15_opens_0 : decode cX15_opens 0 = .ok (.iload_n 1, 1) := dk_27 (dk_at dksX15_opens_0 0 rfl rfl)
theorem dX15_opens_1 : decode cX15_opens 1 = .ok (.istore_n 2, 1) := dk_61 (dk_at dksX15_opens_0 1 rfl rfl)
theorem dX15_opens_2 : decode cX15_opens 2 = .ok (.iconst 0, 1) := dk_3 (dk_at dksX15_opens_0 2 rfl rfl)
theorem dX15_opens_3 : decode cX15_opens 3 = .ok (.istore_n 3, 1) := dk_62 (dk_at dksX15_opens_0 3 rfl rfl)
theorem dX15_opens_4 : decode cX15_opens 4 = .ok (.iload_n 3, 1) := dk_29 (dk_at dksX15_opens_0 4 rfl rfl)
theorem dX15_opens_5 : decode cX15_opens 5 = .ok (.aload_n 0, 1) := dk_42 (dk_at dksX15_opens_0 5 rfl rfl)
theorem dX15_opens_6 : decode cX15_opens 6 = .ok (.getfield 3, 3) := dk_180 0 3 (dk_at dksX15_opens_0 6 rfl rfl)
theorem dX15_opens_9 : decode cX15_opens 9 = .ok (.getfield 22, 3) := dk_180 0 22 (dk_at dksX15_opens_0 9 rfl rfl)
theorem dX15_opens_12 : decode cX15_opens 12 = .ok (.getfield 26, 3) := dk_180 0 26 (dk_at dksX15_opens_0 12 rfl rfl)
theorem dX15_opens_15 : decode cX15_opens 15 = .ok (.invokevirtual 32, 3) := dk_182 0 32 (dk_at dksX15_opens_0 15 rfl rfl)
theorem dX15_opens_18 : decode cX15_opens 18 = .ok (.if_icmp .ge 42, 3) := dk_162 0 42 (dk_at dksX15_opens_0 18 rfl rfl)
theorem dX15_opens_21 : decode cX15_opens 21 = .ok (.aload_n 0, 1) := dk_42 (dk_at dksX15_opens_0 21 rfl rfl)
theorem dX15_opens_22 : decode cX15_opens 22 = .ok (.getfield 19, 3) := dk_180 0 19 (dk_at dksX15_opens_1 0 rfl rfl)
theorem dX15_opens_25 : decode cX15_opens 25 = .ok (.iload_n 3, 1) := dk_29 (dk_at dksX15_opens_1 3 rfl rfl)
theorem dX15_opens_26 : decode cX15_opens 26 = .ok (.aload_n 0, 1) := dk_42 (dk_at dksX15_opens_1 4 rfl rfl)
theorem dX15_opens_27 : decode cX15_opens 27 = .ok (.getfield 3, 3) := dk_180 0 3 (dk_at dksX15_opens_1 5 rfl rfl)
theorem dX15_opens_30 : decode cX15_opens 30 = .ok (.iload_n 3, 1) := dk_29 (dk_at dksX15_opens_1 8 rfl rfl)
theorem dX15_opens_31 : decode cX15_opens 31 = .ok (.invokevirtual 38, 3) := dk_182 0 38 (dk_at dksX15_opens_1 9 rfl rfl)
theorem dX15_opens_34 : decode cX15_opens 34 = .ok (.iload_n 2, 1) := dk_28 (dk_at dksX15_opens_1 12 rfl rfl)
theorem dX15_opens_35 : decode cX15_opens 35 = .ok (.invokestatic 42, 3) := dk_184 0 42 (dk_at dksX15_opens_1 13 rfl rfl)
theorem dX15_opens_38 : decode cX15_opens 38 = .ok (.iastore, 1) := dk_79 (dk_at dksX15_opens_1 16 rfl rfl)
theorem dX15_opens_39 : decode cX15_opens 39 = .ok (.iload_n 2, 1) := dk_28 (dk_at dksX15_opens_1 17 rfl rfl)
theorem dX15_opens_40 : decode cX15_opens 40 = .ok (.getstatic 46, 3) := dk_178 0 46 (dk_at dksX15_opens_1 18 rfl rfl)
theorem dX15_opens_43 : decode cX15_opens 43 = .ok (.aload_n 0, 1) := dk_42 (dk_at dksX15_opens_1 21 rfl rfl)
theorem dX15_opens_44 : decode cX15_opens 44 = .ok (.getfield 3, 3) := dk_180 0 3 (dk_at dksX15_opens_2 0 rfl rfl)
theorem dX15_opens_47 : decode cX15_opens 47 = .ok (.iload_n 3, 1) := dk_29 (dk_at dksX15_opens_2 3 rfl rfl)
theorem dX15_opens_48 : decode cX15_opens 48 = .ok (.invokevirtual 38, 3) := dk_182 0 38 (dk_at dksX15_opens_2 4 rfl rfl)
theorem dX15_opens_51 : decode cX15_opens 51 = .ok (.iaload, 1) := dk_46 (dk_at dksX15_opens_2 7 rfl rfl)
theorem dX15_opens_52 : decode cX15_opens 52 = .ok (.ishr, 1) := dk_122 (dk_at dksX15_opens_2 8 rfl rfl)
theorem dX15_opens_53 : decode cX15_opens 53 = .ok (.istore_n 2, 1) := dk_61 (dk_at dksX15_opens_2 9 rfl rfl)
theorem dX15_opens_54 : decode cX15_opens 54 = .ok (.iinc 3 1, 3) := dk_132 3 1 (dk_at dksX15_opens_2 10 rfl rfl)
theorem dX15_opens_57 : decode cX15_opens 57 = .ok (.goto (-53), 3) := dk_167 255 203 (dk_at dksX15_opens_2 13 rfl rfl)
theorem dX15_opens_60 : decode cX15_opens 60 = .ok (.aload_n 0, 1) := dk_42 (dk_at dksX15_opens_2 16 rfl rfl)
theorem dX15_opens_61 : decode cX15_opens 61 = .ok (.areturn, 1) := dk_176 (dk_at dksX15_opens_2 17 rfl rfl)
def dkwX15_goes_8 : List UInt8 := [66, 132, 5, 1, 167, 255, 204, 42, 33, 182, 0, 122, 132, 2, 1, 167, 255, 127, 177]
abbrev dktX15_goes_8 : List UInt8 := dkwX15_goes_8 ++ []
def dkwX15_goes_7 : List UInt8 := [153, 0, 25, 33, 42, 21, 5, 182, 0, 115, 133, 105, 42, 180, 0, 3, 180, 0, 22, 180, 0, 118, 133, 113]
abbrev dktX15_goes_7 : List UInt8 := dkwX15_goes_7 ++ dktX15_goes_8
def dkwX15_goes_6 : List UInt8 := [21, 5, 42, 180, 0, 3, 180, 0, 22, 180, 0, 26, 182, 0, 32, 162, 0, 40, 42, 21, 5, 182, 0, 85]
abbrev dktX15_goes_6 : List UInt8 := dkwX15_goes_6 ++ dktX15_goes_7
def dkwX15_goes_5 : List UInt8 := [42, 43, 29, 182, 0, 107, 192, 0, 80, 182, 0, 111, 132, 3, 1, 167, 255, 225, 10, 66, 3, 54, 5]
abbrev dktX15_goes_5 : List UInt8 := dkwX15_goes_5 ++ dktX15_goes_6
def dkwX15_goes_4 : List UInt8 := [3, 16, 6, 184, 0, 97, 3, 62, 29, 43, 182, 0, 96, 162, 0, 29, 28, 29, 184, 0, 103, 153, 0, 15]
abbrev dktX15_goes_4 : List UInt8 := dkwX15_goes_4 ++ dktX15_goes_5
def dkwX15_goes_3 : List UInt8 := [167, 255, 209, 3, 61, 28, 4, 43, 182, 0, 96, 120, 162, 0, 125, 42, 180, 0, 19, 3, 42, 180, 0, 15]
abbrev dktX15_goes_3 : List UInt8 := dkwX15_goes_3 ++ dktX15_goes_4
def dkwX15_goes_2 : List UInt8 := [182, 0, 85, 153, 0, 20, 42, 45, 182, 0, 89, 182, 0, 85, 153, 0, 9, 43, 45, 182, 0, 92, 87]
abbrev dktX15_goes_2 : List UInt8 := dkwX15_goes_2 ++ dktX15_goes_3
def dkwX15_goes_1 : List UInt8 := [185, 0, 70, 1, 0, 153, 0, 44, 44, 185, 0, 76, 1, 0, 192, 0, 80, 78, 42, 45, 182, 0, 82]
abbrev dktX15_goes_1 : List UInt8 := dkwX15_goes_1 ++ dktX15_goes_2
def dkwX15_goes_0 : List UInt8 := [187, 0, 59, 89, 183, 0, 61, 76, 42, 180, 0, 3, 180, 0, 49, 180, 0, 62, 182, 0, 66, 77, 44]
abbrev dktX15_goes_0 : List UInt8 := dkwX15_goes_0 ++ dktX15_goes_1
theorem dksX15_goes_0 : cX15_goes.data.toList.drop 0 = dktX15_goes_0 := by decide +kernel
theorem dksX15_goes_1 : cX15_goes.data.toList.drop 23 = dktX15_goes_1 := dk_seg dksX15_goes_0 23 rfl rfl
theorem dksX15_goes_2 : cX15_goes.data.toList.drop 46 = dktX15_goes_2 := dk_seg dksX15_goes_1 23 rfl rfl
theorem dksX15_goes_3 : cX15_goes.data.toList.drop 69 = dktX15_goes_3 := dk_seg dksX15_goes_2 23 rfl rfl
theorem dksX15_goes_4 : cX15_goes.data.toList.drop 93 = dktX15_goes_4 := dk_seg dksX15_goes_3 24 rfl rfl
theorem dksX15_goes_5 : cX15_goes.data.toList.drop 117 = dktX15_goes_5 := dk_seg dksX15_goes_4 24 rfl rfl
theorem dksX15_goes_6 : cX15_goes.data.toList.drop 140 = dktX15_goes_6 := dk_seg dksX15_goes_5 23 rfl rfl
theorem dksX15_goes_7 : cX15_goes.data.toList.drop 164 = dktX15_goes_7 := dk_seg dksX15_goes_6 24 rfl rfl
theorem dksX15_goes_8 : cX15_goes.data.toList.drop 188 = dktX15_goes_8 := dk_seg dksX15_goes_7 24 rfl rfl
theorem dX15_goes_0 : decode cX15_goes 0 = .ok (.new 59, 3) := dk_187 0 59 (dk_at dksX15_goes_0 0 rfl rfl)
theorem dX15_goes_3 : decode cX15_goes 3 = .ok (.dup, 1) := dk_89 (dk_at dksX15_goes_0 3 rfl rfl)
theorem dX15_goes_4 : decode cX15_goes 4 = .ok (.invokespecial 61, 3) := dk_183 0 61 (dk_at dksX15_goes_0 4 rfl rfl)
theorem dX15_goes_7 : decode cX15_goes 7 = .ok (.astore_n 1, 1) := dk_76 (dk_at dksX15_goes_0 7 rfl rfl)
theorem dX15_goes_8 : decode cX15_goes 8 = .ok (.aload_n 0, 1) := dk_42 (dk_at dksX15_goes_0 8 rfl rfl)
theorem dX15_goes_9 : decode cX15_goes 9 = .ok (.getfield 3, 3) := dk_180 0 3 (dk_at dksX15_goes_0 9 rfl rfl)
theorem dX15_goes_12 : decode cX15_goes 12 = .ok (.getfield 49, 3) := dk_180 0 49 (dk_at dksX15_goes_0 12 rfl rfl)
theorem dX15_goes_15 : decode cX15_goes 15 = .ok (.getfield 62, 3) := dk_180 0 62 (dk_at dksX15_goes_0 15 rfl rfl)
theorem dX15_goes_18 : decode cX15_goes 18 = .ok (.invokevirtual 66, 3) := dk_182 0 66 (dk_at dksX15_goes_0 18 rfl rfl)
theorem dX15_goes_21 : decode cX15_goes 21 = .ok (.astore_n 2, 1) := dk_77 (dk_at dksX15_goes_0 21 rfl rfl)
theorem dX15_goes_22 : decode cX15_goes 22 = .ok (.aload_n 2, 1) := dk_44 (dk_at dksX15_goes_0 22 rfl rfl)
theorem dX15_goes_23 : decode cX15_goes 23 = .ok (.invokeinterface 70 1, 5) := by decide +kernel
theorem dX15_goes_28 : decode cX15_goes 28 = .ok (.ifCond .eq 44, 3) := dk_153 0 44 (dk_at dksX15_goes_1 5 rfl rfl)
theorem dX15_goes_31 : decode cX15_goes 31 = .ok (.aload_n 2, 1) := dk_44 (dk_at dksX15_goes_1 8 rfl rfl)
theorem dX15_goes_32 : decode cX15_goes 32 = .ok (.invokeinterface 76 1, 5) := by decide +kernel
theorem dX15_goes_37 : decode cX15_goes 37 = .ok (.checkcast 80, 3) := dk_192 0 80 (dk_at dksX15_goes_1 14 rfl rfl)
theorem dX15_goes_40 : decode cX15_goes 40 = .ok (.astore_n 3, 1) := dk_78 (dk_at dksX15_goes_1 17 rfl rfl)
theorem dX15_goes_41 : decode cX15_goes 41 = .ok (.aload_n 0, 1) := dk_42 (dk_at dksX15_goes_1 18 rfl rfl)
theorem dX15_goes_42 : decode cX15_goes 42 = .ok (.aload_n 3, 1) := dk_45 (dk_at dksX15_goes_1 19 rfl rfl)
theorem dX15_goes_43 : decode cX15_goes 43 = .ok (.invokevirtual 82, 3) := dk_182 0 82 (dk_at dksX15_goes_1 20 rfl rfl)
theorem dX15_goes_46 : decode cX15_goes 46 = .ok (.invokevirtual 85, 3) := dk_182 0 85 (dk_at dksX15_goes_2 0 rfl rfl)
theorem dX15_goes_49 : decode cX15_goes 49 = .ok (.ifCond .eq 20, 3) := dk_153 0 20 (dk_at dksX15_goes_2 3 rfl rfl)
theorem dX15_goes_52 : decode cX15_goes 52 = .ok (.aload_n 0, 1) := dk_42 (dk_at dksX15_goes_2 6 rfl rfl)
theorem dX15_goes_53 : decode cX15_goes 53 = .ok (.aload_n 3, 1) := dk_45 (dk_at dksX15_goes_2 7 rfl rfl)
theorem dX15_goes_54 : decode cX15_goes 54 = .ok (.invokevirtual 89, 3) := dk_182 0 89 (dk_at dksX15_goes_2 8 rfl rfl)
theorem dX15_goes_57 : decode cX15_goes 57 = .ok (.invokevirtual 85, 3) := dk_182 0 85 (dk_at dksX15_goes_2 11 rfl rfl)
theorem dX15_goes_60 : decode cX15_goes 60 = .ok (.ifCond .eq 9, 3) := dk_153 0 9 (dk_at dksX15_goes_2 14 rfl rfl)
theorem dX15_goes_63 : decode cX15_goes 63 = .ok (.aload_n 1, 1) := dk_43 (dk_at dksX15_goes_2 17 rfl rfl)
theorem dX15_goes_64 : decode cX15_goes 64 = .ok (.aload_n 3, 1) := dk_45 (dk_at dksX15_goes_2 18 rfl rfl)
theorem dX15_goes_65 : decode cX15_goes 65 = .ok (.invokevirtual 92, 3) := dk_182 0 92 (dk_at dksX15_goes_2 19 rfl rfl)
theorem dX15_goes_68 : decode cX15_goes 68 = .ok (.pop, 1) := dk_87 (dk_at dksX15_goes_2 22 rfl rfl)
theorem dX15_goes_69 : decode cX15_goes 69 = .ok (.goto (-47), 3) := dk_167 255 209 (dk_at dksX15_goes_3 0 rfl rfl)
theorem dX15_goes_72 : decode cX15_goes 72 = .ok (.iconst 0, 1) := dk_3 (dk_at dksX15_goes_3 3 rfl rfl)
theorem dX15_goes_73 : decode cX15_goes 73 = .ok (.istore_n 2, 1) := dk_61 (dk_at dksX15_goes_3 4 rfl rfl)
theorem dX15_goes_74 : decode cX15_goes 74 = .ok (.iload_n 2, 1) := dk_28 (dk_at dksX15_goes_3 5 rfl rfl)
theorem dX15_goes_75 : decode cX15_goes 75 = .ok (.iconst 1, 1) := dk_4 (dk_at dksX15_goes_3 6 rfl rfl)
theorem dX15_goes_76 : decode cX15_goes 76 = .ok (.aload_n 1, 1) := dk_43 (dk_at dksX15_goes_3 7 rfl rfl)
theorem dX15_goes_77 : decode cX15_goes 77 = .ok (.invokevirtual 96, 3) := dk_182 0 96 (dk_at dksX15_goes_3 8 rfl rfl)
theorem dX15_goes_80 : decode cX15_goes 80 = .ok (.ishl, 1) := dk_120 (dk_at dksX15_goes_3 11 rfl rfl)
theorem dX15_goes_81 : decode cX15_goes 81 = .ok (.if_icmp .ge 125, 3) := dk_162 0 125 (dk_at dksX15_goes_3 12 rfl rfl)
theorem dX15_goes_84 : decode cX15_goes 84 = .ok (.aload_n 0, 1) := dk_42 (dk_at dksX15_goes_3 15 rfl rfl)
theorem dX15_goes_85 : decode cX15_goes 85 = .ok (.getfield 19, 3) := dk_180 0 19 (dk_at dksX15_goes_3 16 rfl rfl)
theorem dX15_goes_88 : decode cX15_goes 88 = .ok (.iconst 0, 1) := dk_3 (dk_at dksX15_goes_3 19 rfl rfl)
theorem dX15_goes_89 : decode cX15_goes 89 = .ok (.aload_n 0, 1) := dk_42 (dk_at dksX15_goes_3 20 rfl rfl)
theorem dX15_goes_90 : decode cX15_goes 90 = .ok (.getfield 15, 3) := dk_180 0 15 (dk_at dksX15_goes_3 21 rfl rfl)
theorem dX15_goes_93 : decode cX15_goes 93 = .ok (.iconst 0, 1) := dk_3 (dk_at dksX15_goes_4 0 rfl rfl)
theorem dX15_goes_94 : decode cX15_goes 94 = .ok (.bipush 6, 2) := dk_16 6 (dk_at dksX15_goes_4 1 rfl rfl)
theorem dX15_goes_96 : decode cX15_goes 96 = .ok (.invokestatic 97, 3) := dk_184 0 97 (dk_at dksX15_goes_4 3 rfl rfl)
theorem dX15_goes_99 : decode cX15_goes 99 = .ok (.iconst 0, 1) := dk_3 (dk_at dksX15_goes_4 6 rfl rfl)
theorem dX15_goes_100 : decode cX15_goes 100 = .ok (.istore_n 3, 1) := dk_62 (dk_at dksX15_goes_4 7 rfl rfl)
theorem dX15_goes_101 : decode cX15_goes 101 = .ok (.iload_n 3, 1) := dk_29 (dk_at dksX15_goes_4 8 rfl rfl)
theorem dX15_goes_102 : decode cX15_goes 102 = .ok (.aload_n 1, 1) := dk_43 (dk_at dksX15_goes_4 9 rfl rfl)
theorem dX15_goes_103 : decode cX15_goes 103 = .ok (.invokevirtual 96, 3) := dk_182 0 96 (dk_at dksX15_goes_4 10 rfl rfl)
theorem dX15_goes_106 : decode cX15_goes 106 = .ok (.if_icmp .ge 29, 3) := dk_162 0 29 (dk_at dksX15_goes_4 13 rfl rfl)
theorem dX15_goes_109 : decode cX15_goes 109 = .ok (.iload_n 2, 1) := dk_28 (dk_at dksX15_goes_4 16 rfl rfl)
theorem dX15_goes_110 : decode cX15_goes 110 = .ok (.iload_n 3, 1) := dk_29 (dk_at dksX15_goes_4 17 rfl rfl)
theorem dX15_goes_111 : decode cX15_goes 111 = .ok (.invokestatic 103, 3) := dk_184 0 103 (dk_at dksX15_goes_4 18 rfl rfl)
theorem dX15_goes_114 : decode cX15_goes 114 = .ok (.ifCond .eq 15, 3) := dk_153 0 15 (dk_at dksX15_goes_4 21 rfl rfl)
theorem dX15_goes_117 : decode cX15_goes 117 = .ok (.aload_n 0, 1) := dk_42 (dk_at dksX15_goes_5 0 rfl rfl)
theorem dX15_goes_118 : decode cX15_goes 118 = .ok (.aload_n 1, 1) := dk_43 (dk_at dksX15_goes_5 1 rfl rfl)
theorem dX15_goes_119 : decode cX15_goes 119 = .ok (.iload_n 3, 1) := dk_29 (dk_at dksX15_goes_5 2 rfl rfl)
theorem dX15_goes_120 : decode cX15_goes 120 = .ok (.invokevirtual 107, 3) := dk_182 0 107 (dk_at dksX15_goes_5 3 rfl rfl)
theorem dX15_goes_123 : decode cX15_goes 123 = .ok (.checkcast 80, 3) := dk_192 0 80 (dk_at dksX15_goes_5 6 rfl rfl)
theorem dX15_goes_126 : decode cX15_goes 126 = .ok (.invokevirtual 111, 3) := dk_182 0 111 (dk_at dksX15_goes_5 9 rfl rfl)
theorem dX15_goes_129 : decode cX15_goes 129 = .ok (.iinc 3 1, 3) := dk_132 3 1 (dk_at dksX15_goes_5 12 rfl rfl)
theorem dX15_goes_132 : decode cX15_goes 132 = .ok (.goto (-31), 3) := dk_167 255 225 (dk_at dksX15_goes_5 15 rfl rfl)
theorem dX15_goes_135 : decode cX15_goes 135 = .ok (.lconst 1, 1) := dk_10 (dk_at dksX15_goes_5 18 rfl rfl)
theorem dX15_goes_136 : decode cX15_goes 136 = .ok (.lstore_n 3, 1) := dk_66 (dk_at dksX15_goes_5 19 rfl rfl)
theorem dX15_goes_137 : decode cX15_goes 137 = .ok (.iconst 0, 1) := dk_3 (dk_at dksX15_goes_5 20 rfl rfl)
theorem dX15_goes_138 : decode cX15_goes 138 = .ok (.istore 5, 2) := dk_54 5 (dk_at dksX15_goes_5 21 rfl rfl)
theorem dX15_goes_140 : decode cX15_goes 140 = .ok (.iload 5, 2) := dk_21 5 (dk_at dksX15_goes_6 0 rfl rfl)
theorem dX15_goes_142 : decode cX15_goes 142 = .ok (.aload_n 0, 1) := dk_42 (dk_at dksX15_goes_6 2 rfl rfl)
theorem dX15_goes_143 : decode cX15_goes 143 = .ok (.getfield 3, 3) := dk_180 0 3 (dk_at dksX15_goes_6 3 rfl rfl)
theorem dX15_goes_146 : decode cX15_goes 146 = .ok (.getfield 22, 3) := dk_180 0 22 (dk_at dksX15_goes_6 6 rfl rfl)
theorem dX15_goes_149 : decode cX15_goes 149 = .ok (.getfield 26, 3) := dk_180 0 26 (dk_at dksX15_goes_6 9 rfl rfl)
theorem dX15_goes_152 : decode cX15_goes 152 = .ok (.invokevirtual 32, 3) := dk_182 0 32 (dk_at dksX15_goes_6 12 rfl rfl)
theorem dX15_goes_155 : decode cX15_goes 155 = .ok (.if_icmp .ge 40, 3) := dk_162 0 40 (dk_at dksX15_goes_6 15 rfl rfl)
theorem dX15_goes_158 : decode cX15_goes 158 = .ok (.aload_n 0, 1) := dk_42 (dk_at dksX15_goes_6 18 rfl rfl)
theorem dX15_goes_159 : decode cX15_goes 159 = .ok (.iload 5, 2) := dk_21 5 (dk_at dksX15_goes_6 19 rfl rfl)
theorem dX15_goes_161 : decode cX15_goes 161 = .ok (.invokevirtual 85, 3) := dk_182 0 85 (dk_at dksX15_goes_6 21 rfl rfl)
theorem dX15_goes_164 : decode cX15_goes 164 = .ok (.ifCond .eq 25, 3) := dk_153 0 25 (dk_at dksX15_goes_7 0 rfl rfl)
theorem dX15_goes_167 : decode cX15_goes 167 = .ok (.lload_n 3, 1) := dk_33 (dk_at dksX15_goes_7 3 rfl rfl)
theorem dX15_goes_168 : decode cX15_goes 168 = .ok (.aload_n 0, 1) := dk_42 (dk_at dksX15_goes_7 4 rfl rfl)
theorem dX15_goes_169 : decode cX15_goes 169 = .ok (.iload 5, 2) := dk_21 5 (dk_at dksX15_goes_7 5 rfl rfl)
theorem dX15_goes_171 : decode cX15_goes 171 = .ok (.invokevirtual 115, 3) := dk_182 0 115 (dk_at dksX15_goes_7 7 rfl rfl)
theorem dX15_goes_174 : decode cX15_goes 174 = .ok (.i2l, 1) := dk_133 (dk_at dksX15_goes_7 10 rfl rfl)
theorem dX15_goes_175 : decode cX15_goes 175 = .ok (.lmul, 1) := dk_105 (dk_at dksX15_goes_7 11 rfl rfl)
theorem dX15_goes_176 : decode cX15_goes 176 = .ok (.aload_n 0, 1) := dk_42 (dk_at dksX15_goes_7 12 rfl rfl)
theorem dX15_goes_177 : decode cX15_goes 177 = .ok (.getfield 3, 3) := dk_180 0 3 (dk_at dksX15_goes_7 13 rfl rfl)
theorem dX15_goes_180 : decode cX15_goes 180 = .ok (.getfield 22, 3) := dk_180 0 22 (dk_at dksX15_goes_7 16 rfl rfl)
theorem dX15_goes_183 : decode cX15_goes 183 = .ok (.getfield 118, 3) := dk_180 0 118 (dk_at dksX15_goes_7 19 rfl rfl)
theorem dX15_goes_186 : decode cX15_goes 186 = .ok (.i2l, 1) := dk_133 (dk_at dksX15_goes_7 22 rfl rfl)
theorem dX15_goes_187 : decode cX15_goes 187 = .ok (.lrem, 1) := dk_113 (dk_at dksX15_goes_7 23 rfl rfl)
theorem dX15_goes_188 : decode cX15_goes 188 = .ok (.lstore_n 3, 1) := dk_66 (dk_at dksX15_goes_8 0 rfl rfl)
theorem dX15_goes_189 : decode cX15_goes 189 = .ok (.iinc 5 1, 3) := dk_132 5 1 (dk_at dksX15_goes_8 1 rfl rfl)
theorem dX15_goes_192 : decode cX15_goes 192 = .ok (.goto (-52), 3) := dk_167 255 204 (dk_at dksX15_goes_8 4 rfl rfl)
theorem dX15_goes_195 : decode cX15_goes 195 = .ok (.aload_n 0, 1) := dk_42 (dk_at dksX15_goes_8 7 rfl rfl)
theorem dX15_goes_196 : decode cX15_goes 196 = .ok (.lload_n 3, 1) := dk_33 (dk_at dksX15_goes_8 8 rfl rfl)
theorem dX15_goes_197 : decode cX15_goes 197 = .ok (.invokevirtual 122, 3) := dk_182 0 122 (dk_at dksX15_goes_8 9 rfl rfl)
theorem dX15_goes_200 : decode cX15_goes 200 = .ok (.iinc 2 1, 3) := dk_132 2 1 (dk_at dksX15_goes_8 12 rfl rfl)
theorem dX15_goes_203 : decode cX15_goes 203 = .ok (.goto (-129), 3) := dk_167 255 127 (dk_at dksX15_goes_8 15 rfl rfl)
theorem dX15_goes_206 : decode cX15_goes 206 = .ok (.return_, 1) := dk_177 (dk_at dksX15_goes_8 18 rfl rfl)
theorem dX15_isIn_0 : decode cX15_isIn 0 = .ok (.iconst 1, 1) := by decide +kernel
theorem dX15_isIn_1 : decode cX15_isIn 1 = .ok (.ireturn, 1) := by decide +kernel
def dkwX15_sets_1 : List UInt8 := [182, 0, 89, 92, 46, 4, 43, 182, 0, 129, 120, 128, 79, 177]
abbrev dktX15_sets_1 : List UInt8 := dkwX15_sets_1 ++ []
def dkwX15_sets_0 : List UInt8 := [42, 180, 0, 15, 43, 182, 0, 82, 92, 46, 4, 43, 182, 0, 126, 120, 128, 79, 42, 180, 0, 15, 43]
abbrev dktX15_sets_0 : List UInt8 := dkwX15_sets_0 ++ dktX15_sets_1
theorem dksX15_sets_0 : cX15_sets.data.toList.drop 0 = dktX15_sets_0 := by decide +kernel
theorem dksX15_sets_1 : cX15_sets.data.toList.drop 23 = dktX15_sets_1 := dk_seg dksX15_sets_0 23 rfl rfl
theorem dX15_sets_0 : decode cX15_sets 0 = .ok (.aload_n 0, 1) := dk_42 (dk_at dksX15_sets_0 0 rfl rfl)
theorem dX15_sets_1 : decode cX15_sets 1 = .ok (.getfield 15, 3) := dk_180 0 15 (dk_at dksX15_sets_0 1 rfl rfl)
theorem dX15_sets_4 : decode cX15_sets 4 = .ok (.aload_n 1, 1) := dk_43 (dk_at dksX15_sets_0 4 rfl rfl)
theorem dX15_sets_5 : decode cX15_sets 5 = .ok (.invokevirtual 82, 3) := dk_182 0 82 (dk_at dksX15_sets_0 5 rfl rfl)
theorem dX15_sets_8 : decode cX15_sets 8 = .ok (.dup2, 1) := dk_92 (dk_at dksX15_sets_0 8 rfl rfl)
theorem dX15_sets_9 : decode cX15_sets 9 = .ok (.iaload, 1) := dk_46 (dk_at dksX15_sets_0 9 rfl rfl)
theorem dX15_sets_10 : decode cX15_sets 10 = .ok (.iconst 1, 1) := dk_4 (dk_at dksX15_sets_0 10 rfl rfl)
theorem dX15_sets_11 : decode cX15_sets 11 = .ok (.aload_n 1, 1) := dk_43 (dk_at dksX15_sets_0 11 rfl rfl)
theorem dX15_sets_12 : decode cX15_sets 12 = .ok (.invokevirtual 126, 3) := dk_182 0 126 (dk_at dksX15_sets_0 12 rfl rfl)
theorem dX15_sets_15 : decode cX15_sets 15 = .ok (.ishl, 1) := dk_120 (dk_at dksX15_sets_0 15 rfl rfl)
theorem dX15_sets_16 : decode cX15_sets 16 = .ok (.ior, 1) := dk_128 (dk_at dksX15_sets_0 16 rfl rfl)
theorem dX15_sets_17 : decode cX15_sets 17 = .ok (.iastore, 1) := dk_79 (dk_at dksX15_sets_0 17 rfl rfl)
theorem dX15_sets_18 : decode cX15_sets 18 = .ok (.aload_n 0, 1) := dk_42 (dk_at dksX15_sets_0 18 rfl rfl)
theorem dX15_sets_19 : decode cX15_sets 19 = .ok (.getfield 15, 3) := dk_180 0 15 (dk_at dksX15_sets_0 19 rfl rfl)
theorem dX15_sets_22 : decode cX15_sets 22 = .ok (.aload_n 1, 1) := dk_43 (dk_at dksX15_sets_0 22 rfl rfl)
theorem dX15_sets_23 : decode cX15_sets 23 = .ok (.invokevirtual 89, 3) := dk_182 0 89 (dk_at dksX15_sets_1 0 rfl rfl)
theorem dX15_sets_26 : decode cX15_sets 26 = .ok (.dup2, 1) := dk_92 (dk_at dksX15_sets_1 3 rfl rfl)
theorem dX15_sets_27 : decode cX15_sets 27 = .ok (.iaload, 1) := dk_46 (dk_at dksX15_sets_1 4 rfl rfl)
theorem dX15_sets_28 : decode cX15_sets 28 = .ok (.iconst 1, 1) := dk_4 (dk_at dksX15_sets_1 5 rfl rfl)
theorem dX15_sets_29 : decode cX15_sets 29 = .ok (.aload_n 1, 1) := dk_43 (dk_at dksX15_sets_1 6 rfl rfl)
theorem dX15_sets_30 : decode cX15_sets 30 = .ok (.invokevirtual 129, 3) := dk_182 0 129 (dk_at dksX15_sets_1 7 rfl rfl)
theorem dX15_sets_33 : decode cX15_sets 33 = .ok (.ishl, 1) := dk_120 (dk_at dksX15_sets_1 10 rfl rfl)
theorem dX15_sets_34 : decode cX15_sets 34 = .ok (.ior, 1) := dk_128 (dk_at dksX15_sets_1 11 rfl rfl)
theorem dX15_sets_35 : decode cX15_sets 35 = .ok (.iastore, 1) := dk_79 (dk_at dksX15_sets_1 12 rfl rfl)
theorem dX15_sets_36 : decode cX15_sets 36 = .ok (.return_, 1) := dk_177 (dk_at dksX15_sets_1 13 rfl rfl)
def dkwX15_worth_0 : List UInt8 := [42, 180, 0, 3, 180, 0, 49, 180, 0, 53, 27, 50, 42, 180, 0, 15, 27, 46, 46, 172]
abbrev dktX15_worth_0 : List UInt8 := dkwX15_worth_0 ++ []
theorem dksX15_worth_0 : cX15_worth.data.toList.drop 0 = dktX15_worth_0 := by decide +kernel
theorem dX15_worth_0 : decode cX15_worth 0 = .ok (.aload_n 0, 1) := dk_42 (dk_at dksX15_worth_0 0 rfl rfl)
theorem dX15_worth_1 : decode cX15_worth 1 = .ok (.getfield 3, 3) := dk_180 0 3 (dk_at dksX15_worth_0 1 rfl rfl)
theorem dX15_worth_4 : decode cX15_worth 4 = .ok (.getfield 49, 3) := dk_180 0 49 (dk_at dksX15_worth_0 4 rfl rfl)
theorem dX15_worth_7 : decode cX15_worth 7 = .ok (.getfield 53, 3) := dk_180 0 53 (dk_at dksX15_worth_0 7 rfl rfl)
theorem dX15_worth_10 : decode cX15_worth 10 = .ok (.iload_n 1, 1) := dk_27 (dk_at dksX15_worth_0 10 rfl rfl)
theorem dX15_worth_11 : decode cX15_worth 11 = .ok (.aaload, 1) := dk_50 (dk_at dksX15_worth_0 11 rfl rfl)
theorem dX15_worth_12 : decode cX15_worth 12 = .ok (.aload_n 0, 1) := dk_42 (dk_at dksX15_worth_0 12 rfl rfl)
theorem dX15_worth_13 : decode cX15_worth 13 = .ok (.getfield 15, 3) := dk_180 0 15 (dk_at dksX15_worth_0 13 rfl rfl)
theorem dX15_worth_16 : decode cX15_worth 16 = .ok (.iload_n 1, 1) := dk_27 (dk_at dksX15_worth_0 16 rfl rfl)
theorem dX15_worth_17 : decode cX15_worth 17 = .ok (.iaload, 1) := dk_46 (dk_at dksX15_worth_0 17 rfl rfl)
theorem dX15_worth_18 : decode cX15_worth 18 = .ok (.iaload, 1) := dk_46 (dk_at dksX15_worth_0 18 rfl rfl)
theorem dX15_worth_19 : decode cX15_worth 19 = .ok (.ireturn, 1) := dk_172 (dk_at dksX15_worth_0 19 rfl rfl)
def dkwX16_init_0 : List UInt8 := [42, 43, 181, 0, 1, 42, 43, 183, 0, 7, 177]
abbrev dktX16_init_0 : List UInt8 := dkwX16_init_0 ++ []
theorem dksX16_init_0 : cX16_init.data.toList.drop 0 = dktX16_init_0 := by decide +kernel
theorem dX16_init_0 : decode cX16_init 0 = .ok (.aload_n 0, 1) := dk_42 (dk_at dksX16_init_0 0 rfl rfl)
theorem dX16_init_1 : decode cX16_init 1 = .ok (.aload_n 1, 1) := dk_43 (dk_at dksX16_init_0 1 rfl rfl)
theorem dX16_init_2 : decode cX16_init 2 = .ok (.putfield 1, 3) := dk_181 0 1 (dk_at dksX16_init_0 2 rfl rfl)
theorem dX16_init_5 : decode cX16_init 5 = .ok (.aload_n 0, 1) := dk_42 (dk_at dksX16_init_0 5 rfl rfl)
theorem dX16_init_6 : decode cX16_init 6 = .ok (.aload_n 1, 1) := dk_43 (dk_at dksX16_init_0 6 rfl rfl)
theorem dX16_init_7 : decode cX16_init 7 = .ok (.invokespecial 7, 3) := dk_183 0 7 (dk_at dksX16_init_0 7 rfl rfl)
theorem dX16_init_10 : decode cX16_init 10 = .ok (.return_, 1) := dk_177 (dk_at dksX16_init_0 10 rfl rfl)
def dkwX16_meets_0 : List UInt8 := [42, 180, 0, 1, 89, 180, 0, 13, 31, 97, 181, 0, 13, 177]
abbrev dktX16_meets_0 : List UInt8 := dkwX16_meets_0 ++ []
theorem dksX16_meets_0 : cX16_meets.data.toList.drop 0 = dktX16_meets_0 := by decide +kernel
theorem dX16_meets_0 : decode cX16_meets 0 = .ok (.aload_n 0, 1) := dk_42 (dk_at dksX16_meets_0 0 rfl rfl)
theorem dX16_meets_1 : decode cX16_meets 1 = .ok (.getfield 1, 3) := dk_180 0 1 (dk_at dksX16_meets_0 1 rfl rfl)
theorem dX16_meets_4 : decode cX16_meets 4 = .ok (.dup, 1) := dk_89 (dk_at dksX16_meets_0 4 rfl rfl)
theorem dX16_meets_5 : decode cX16_meets 5 = .ok (.getfield 13, 3) := dk_180 0 13 (dk_at dksX16_meets_0 5 rfl rfl)
theorem dX16_meets_8 : decode cX16_meets 8 = .ok (.lload_n 1, 1) := dk_31 (dk_at dksX16_meets_0 8 rfl rfl)
theorem dX16_meets_9 : decode cX16_meets 9 = .ok (.ladd, 1) := dk_97 (dk_at dksX16_meets_0 9 rfl rfl)
theorem dX16_meets_10 : decode cX16_meets 10 = .ok (.putfield 13, 3) := dk_181 0 13 (dk_at dksX16_meets_0 10 rfl rfl)
theorem dX16_meets_13 : decode cX16_meets 13 = .ok (.return_, 1) := dk_177 (dk_at dksX16_meets_0 13 rfl rfl)
def dkwX17_worth_2 : List UInt8 := [21, 4, 184, 0, 40, 128, 46, 96, 62, 132, 4, 1, 167, 255, 212, 29, 172]
abbrev dktX17_worth_2 : List UInt8 := dkwX17_worth_2 ++ []
def dkwX17_worth_1 : List UInt8 := [162, 0, 38, 29, 42, 180, 0, 1, 180, 0, 27, 180, 0, 31, 27, 50, 42, 180, 0, 37, 27, 46, 28]
abbrev dktX17_worth_1 : List UInt8 := dkwX17_worth_1 ++ dktX17_worth_2
def dkwX17_worth_0 : List UInt8 := [42, 180, 0, 1, 27, 182, 0, 19, 61, 3, 62, 3, 54, 4, 21, 4, 4, 178, 0, 23, 28, 46, 120]
abbrev dktX17_worth_0 : List UInt8 := dkwX17_worth_0 ++ dktX17_worth_1
theorem dksX17_worth_0 : cX17_worth.data.toList.drop 0 = dktX17_worth_0 := by decide +kernel
theorem dksX17_worth_1 : cX17_worth.data.toList.drop 23 = dktX17_worth_1 := dk_seg dksX17_worth_0 23 rfl rfl
theorem dksX17_worth_2 : cX17_worth.data.toList.drop 46 = dktX17_worth_2 := dk_seg dksX17_worth_1 23 rfl rfl
theorem dX17_worth_0 : decode cX17_worth 0 = .ok (.aload_n 0, 1) := dk_42 (dk_at dksX17_worth_0 0 rfl rfl)
theorem dX17_worth_1 : decode cX17_worth 1 = .ok (.getfield 1, 3) := dk_180 0 1 (dk_at dksX17_worth_0 1 rfl rfl)
theorem dX17_worth_4 : decode cX17_worth 4 = .ok (.iload_n 1, 1) := dk_27 (dk_at dksX17_worth_0 4 rfl rfl)
theorem dX17_worth_5 : decode cX17_worth 5 = .ok (.invokevirtual 19, 3) := dk_182 0 19 (dk_at dksX17_worth_0 5 rfl rfl)
theorem dX17_worth_8 : decode cX17_worth 8 = .ok (.istore_n 2, 1) := dk_61 (dk_at dksX17_worth_0 8 rfl rfl)
theorem dX17_worth_9 : decode cX17_worth 9 = .ok (.iconst 0, 1) := dk_3 (dk_at dksX17_worth_0 9 rfl rfl)
theorem dX17_worth_10 : decode cX17_worth 10 = .ok (.istore_n 3, 1) := dk_62 (dk_at dksX17_worth_0 10 rfl rfl)
theorem dX17_worth_11 : decode cX17_worth 11 = .ok (.iconst 0, 1) := dk_3 (dk_at dksX17_worth_0 11 rfl rfl)
theorem dX17_worth_12 : decode cX17_worth 12 = .ok (.istore 4, 2) := dk_54 4 (dk_at dksX17_worth_0 12 rfl rfl)
theorem dX17_worth_14 : decode cX17_worth 14 = .ok (.iload 4, 2) := dk_21 4 (dk_at dksX17_worth_0 14 rfl rfl)
theorem dX17_worth_16 : decode cX17_worth 16 = .ok (.iconst 1, 1) := dk_4 (dk_at dksX17_worth_0 16 rfl rfl)
theorem dX17_worth_17 : decode cX17_worth 17 = .ok (.getstatic 23, 3) := dk_178 0 23 (dk_at dksX17_worth_0 17 rfl rfl)
theorem dX17_worth_20 : decode cX17_worth 20 = .ok (.iload_n 2, 1) := dk_28 (dk_at dksX17_worth_0 20 rfl rfl)
theorem dX17_worth_21 : decode cX17_worth 21 = .ok (.iaload, 1) := dk_46 (dk_at dksX17_worth_0 21 rfl rfl)
theorem dX17_worth_22 : decode cX17_worth 22 = .ok (.ishl, 1) := dk_120 (dk_at dksX17_worth_0 22 rfl rfl)
theorem dX17_worth_23 : decode cX17_worth 23 = .ok (.if_icmp .ge 38, 3) := dk_162 0 38 (dk_at dksX17_worth_1 0 rfl rfl)
theorem dX17_worth_26 : decode cX17_worth 26 = .ok (.iload_n 3, 1) := dk_29 (dk_at dksX17_worth_1 3 rfl rfl)
theorem dX17_worth_27 : decode cX17_worth 27 = .ok (.aload_n 0, 1) := dk_42 (dk_at dksX17_worth_1 4 rfl rfl)
theorem dX17_worth_28 : decode cX17_worth 28 = .ok (.getfield 1, 3) := dk_180 0 1 (dk_at dksX17_worth_1 5 rfl rfl)
theorem dX17_worth_31 : decode cX17_worth 31 = .ok (.getfield 27, 3) := dk_180 0 27 (dk_at dksX17_worth_1 8 rfl rfl)
theorem dX17_worth_34 : decode cX17_worth 34 = .ok (.getfield 31, 3) := dk_180 0 31 (dk_at dksX17_worth_1 11 rfl rfl)
theorem dX17_worth_37 : decode cX17_worth 37 = .ok (.iload_n 1, 1) := dk_27 (dk_at dksX17_worth_1 14 rfl rfl)
theorem dX17_worth_38 : decode cX17_worth 38 = .ok (.aaload, 1) := dk_50 (dk_at dksX17_worth_1 15 rfl rfl)
theorem dX17_worth_39 : decode cX17_worth 39 = .ok (.aload_n 0, 1) := dk_42 (dk_at dksX17_worth_1 16 rfl rfl)
theorem dX17_worth_40 : decode cX17_worth 40 = .ok (.getfield 37, 3) := dk_180 0 37 (dk_at dksX17_worth_1 17 rfl rfl)
theorem dX17_worth_43 : decode cX17_worth 43 = .ok (.iload_n 1, 1) := dk_27 (dk_at dksX17_worth_1 20 rfl rfl)
theorem dX17_worth_44 : decode cX17_worth 44 = .ok (.iaload, 1) := dk_46 (dk_at dksX17_worth_1 21 rfl rfl)
theorem dX17_worth_45 : decode cX17_worth 45 = .ok (.iload_n 2, 1) := dk_28 (dk_at dksX17_worth_1 22 rfl rfl)
theorem dX17_worth_46 : decode cX17_worth 46 = .ok (.iload 4, 2) := dk_21 4 (dk_at dksX17_worth_2 0 rfl rfl)
theorem dX17_worth_48 : decode cX17_worth 48 = .ok (.invokestatic 40, 3) := dk_184 0 40 (dk_at dksX17_worth_2 2 rfl rfl)
theorem dX17_worth_51 : decode cX17_worth 51 = .ok (.ior, 1) := dk_128 (dk_at dksX17_worth_2 5 rfl rfl)
theorem dX17_worth_52 : decode cX17_worth 52 = .ok (.iaload, 1) := dk_46 (dk_at dksX17_worth_2 6 rfl rfl)
theorem dX17_worth_53 : decode cX17_worth 53 = .ok (.iadd, 1) := dk_96 (dk_at dksX17_worth_2 7 rfl rfl)
theorem dX17_worth_54 : decode cX17_worth 54 = .ok (.istore_n 3, 1) := dk_62 (dk_at dksX17_worth_2 8 rfl rfl)
theorem dX17_worth_55 : decode cX17_worth 55 = .ok (.iinc 4 1, 3) := dk_132 4 1 (dk_at dksX17_worth_2 9 rfl rfl)
theorem dX17_worth_58 : decode cX17_worth 58 = .ok (.goto (-44), 3) := dk_167 255 212 (dk_at dksX17_worth_2 12 rfl rfl)
theorem dX17_worth_61 : decode cX17_worth 61 = .ok (.iload_n 3, 1) := dk_29 (dk_at dksX17_worth_2 15 rfl rfl)
theorem dX17_worth_62 : decode cX17_worth 62 = .ok (.ireturn, 1) := dk_172 (dk_at dksX17_worth_2 16 rfl rfl)
def dkwX17_meets_0 : List UInt8 := [42, 180, 0, 1, 89, 180, 0, 13, 31, 97, 181, 0, 13, 177]
abbrev dktX17_meets_0 : List UInt8 := dkwX17_meets_0 ++ []
theorem dksX17_meets_0 : cX17_meets.data.toList.drop 0 = dktX17_meets_0 := by decide +kernel
theorem dX17_meets_0 : decode cX17_meets 0 = .ok (.aload_n 0, 1) := dk_42 (dk_at dksX17_meets_0 0 rfl rfl)
theorem dX17_meets_1 : decode cX17_meets 1 = .ok (.getfield 1, 3) := dk_180 0 1 (dk_at dksX17_meets_0 1 rfl rfl)
theorem dX17_meets_4 : decode cX17_meets 4 = .ok (.dup, 1) := dk_89 (dk_at dksX17_meets_0 4 rfl rfl)
theorem dX17_meets_5 : decode cX17_meets 5 = .ok (.getfield 13, 3) := dk_180 0 13 (dk_at dksX17_meets_0 5 rfl rfl)
theorem dX17_meets_8 : decode cX17_meets 8 = .ok (.lload_n 1, 1) := dk_31 (dk_at dksX17_meets_0 8 rfl rfl)
theorem dX17_meets_9 : decode cX17_meets 9 = .ok (.ladd, 1) := dk_97 (dk_at dksX17_meets_0 9 rfl rfl)
theorem dX17_meets_10 : decode cX17_meets 10 = .ok (.putfield 13, 3) := dk_181 0 13 (dk_at dksX17_meets_0 10 rfl rfl)
theorem dX17_meets_13 : decode cX17_meets 13 = .ok (.return_, 1) := dk_177 (dk_at dksX17_meets_0 13 rfl rfl)
def dkwX17_init_0 : List UInt8 := [42, 43, 181, 0, 1, 42, 43, 183, 0, 7, 177]
abbrev dktX17_init_0 : List UInt8 := dkwX17_init_0 ++ []
theorem dksX17_init_0 : cX17_init.data.toList.drop 0 = dktX17_init_0 := by decide +kernel
theorem dX17_init_0 : decode cX17_init 0 = .ok (.aload_n 0, 1) := dk_42 (dk_at dksX17_init_0 0 rfl rfl)
theorem dX17_init_1 : decode cX17_init 1 = .ok (.aload_n 1, 1) := dk_43 (dk_at dksX17_init_0 1 rfl rfl)
theorem dX17_init_2 : decode cX17_init 2 = .ok (.putfield 1, 3) := dk_181 0 1 (dk_at dksX17_init_0 2 rfl rfl)
theorem dX17_init_5 : decode cX17_init 5 = .ok (.aload_n 0, 1) := dk_42 (dk_at dksX17_init_0 5 rfl rfl)
theorem dX17_init_6 : decode cX17_init 6 = .ok (.aload_n 1, 1) := dk_43 (dk_at dksX17_init_0 6 rfl rfl)
theorem dX17_init_7 : decode cX17_init 7 = .ok (.invokespecial 7, 3) := dk_183 0 7 (dk_at dksX17_init_0 7 rfl rfl)
theorem dX17_init_10 : decode cX17_init 10 = .ok (.return_, 1) := dk_177 (dk_at dksX17_init_0 10 rfl rfl)
def dkwX18_meets_0 : List UInt8 := [42, 180, 0, 1, 89, 180, 0, 13, 31, 9, 148, 154, 0, 7, 9, 167, 0, 4, 10, 97, 181, 0, 13, 177]
abbrev dktX18_meets_0 : List UInt8 := dkwX18_meets_0 ++ []
theorem dksX18_meets_0 : cX18_meets.data.toList.drop 0 = dktX18_meets_0 := by decide +kernel
theorem dX18_meets_0 : decode cX18_meets 0 = .ok (.aload_n 0, 1) := dk_42 (dk_at dksX18_meets_0 0 rfl rfl)
theorem dX18_meets_1 : decode cX18_meets 1 = .ok (.getfield 1, 3) := dk_180 0 1 (dk_at dksX18_meets_0 1 rfl rfl)
theorem dX18_meets_4 : decode cX18_meets 4 = .ok (.dup, 1) := dk_89 (dk_at dksX18_meets_0 4 rfl rfl)
theorem dX18_meets_5 : decode cX18_meets 5 = .ok (.getfield 13, 3) := dk_180 0 13 (dk_at dksX18_meets_0 5 rfl rfl)
theorem dX18_meets_8 : decode cX18_meets 8 = .ok (.lload_n 1, 1) := dk_31 (dk_at dksX18_meets_0 8 rfl rfl)
theorem dX18_meets_9 : decode cX18_meets 9 = .ok (.lconst 0, 1) := dk_9 (dk_at dksX18_meets_0 9 rfl rfl)
theorem dX18_meets_10 : decode cX18_meets 10 = .ok (.lcmp, 1) := dk_148 (dk_at dksX18_meets_0 10 rfl rfl)
theorem dX18_meets_11 : decode cX18_meets 11 = .ok (.ifCond .ne 7, 3) := dk_154 0 7 (dk_at dksX18_meets_0 11 rfl rfl)
theorem dX18_meets_14 : decode cX18_meets 14 = .ok (.lconst 0, 1) := dk_9 (dk_at dksX18_meets_0 14 rfl rfl)
theorem dX18_meets_15 : decode cX18_meets 15 = .ok (.goto 4, 3) := dk_167 0 4 (dk_at dksX18_meets_0 15 rfl rfl)
theorem dX18_meets_18 : decode cX18_meets 18 = .ok (.lconst 1, 1) := dk_10 (dk_at dksX18_meets_0 18 rfl rfl)
theorem dX18_meets_19 : decode cX18_meets 19 = .ok (.ladd, 1) := dk_97 (dk_at dksX18_meets_0 19 rfl rfl)
theorem dX18_meets_20 : decode cX18_meets 20 = .ok (.putfield 13, 3) := dk_181 0 13 (dk_at dksX18_meets_0 20 rfl rfl)
theorem dX18_meets_23 : decode cX18_meets 23 = .ok (.return_, 1) := dk_177 (dk_at dksX18_meets_0 23 rfl rfl)
def dkwX18_init_0 : List UInt8 := [42, 43, 181, 0, 1, 42, 43, 183, 0, 7, 177]
abbrev dktX18_init_0 : List UInt8 := dkwX18_init_0 ++ []
theorem dksX18_init_0 : cX18_init.data.toList.drop 0 = dktX18_init_0 := by decide +kernel
theorem dX18_init_0 : decode cX18_init 0 = .ok (.aload_n 0, 1) := dk_42 (dk_at dksX18_init_0 0 rfl rfl)
theorem dX18_init_1 : decode cX18_init 1 = .ok (.aload_n 1, 1) := dk_43 (dk_at dksX18_init_0 1 rfl rfl)
theorem dX18_init_2 : decode cX18_init 2 = .ok (.putfield 1, 3) := dk_181 0 1 (dk_at dksX18_init_0 2 rfl rfl)
theorem dX18_init_5 : decode cX18_init 5 = .ok (.aload_n 0, 1) := dk_42 (dk_at dksX18_init_0 5 rfl rfl)
theorem dX18_init_6 : decode cX18_init 6 = .ok (.aload_n 1, 1) := dk_43 (dk_at dksX18_init_0 6 rfl rfl)
theorem dX18_init_7 : decode cX18_init 7 = .ok (.invokespecial 7, 3) := dk_183 0 7 (dk_at dksX18_init_0 7 rfl rfl)
theorem dX18_init_10 : decode cX18_init 10 = .ok (.return_, 1) := dk_177 (dk_at dksX18_init_0 10 rfl rfl)
def dkwX19_isIn_0 : List UInt8 := [42, 180, 0, 7, 27, 184, 0, 23, 172]
abbrev dktX19_isIn_0 : List UInt8 := dkwX19_isIn_0 ++ []
theorem dksX19_isIn_0 : cX19_isIn.data.toList.drop 0 = dktX19_isIn_0 := by decide +kernel
theorem dX19_isIn_0 : decode cX19_isIn 0 = .ok (.aload_n 0, 1) := dk_42 (dk_at dksX19_isIn_0 0 rfl rfl)
theorem dX19_isIn_1 : decode cX19_isIn 1 = .ok (.getfield 7, 3) := dk_180 0 7 (dk_at dksX19_isIn_0 1 rfl rfl)
theorem dX19_isIn_4 : decode cX19_isIn 4 = .ok (.iload_n 1, 1) := dk_27 (dk_at dksX19_isIn_0 4 rfl rfl)
theorem dX19_isIn_5 : decode cX19_isIn 5 = .ok (.invokestatic 23, 3) := dk_184 0 23 (dk_at dksX19_isIn_0 5 rfl rfl)
theorem dX19_isIn_8 : decode cX19_isIn 8 = .ok (.ireturn, 1) := dk_172 (dk_at dksX19_isIn_0 8 rfl rfl)
def dkwX19_meets_0 : List UInt8 := [42, 180, 0, 1, 89, 180, 0, 17, 31, 97, 181, 0, 17, 177]
abbrev dktX19_meets_0 : List UInt8 := dkwX19_meets_0 ++ []
theorem dksX19_meets_0 : cX19_meets.data.toList.drop 0 = dktX19_meets_0 := by decide +kernel
theorem dX19_meets_0 : decode cX19_meets 0 = .ok (.aload_n 0, 1) := dk_42 (dk_at dksX19_meets_0 0 rfl rfl)
theorem dX19_meets_1 : decode cX19_meets 1 = .ok (.getfield 1, 3) := dk_180 0 1 (dk_at dksX19_meets_0 1 rfl rfl)
theorem dX19_meets_4 : decode cX19_meets 4 = .ok (.dup, 1) := dk_89 (dk_at dksX19_meets_0 4 rfl rfl)
theorem dX19_meets_5 : decode cX19_meets 5 = .ok (.getfield 17, 3) := dk_180 0 17 (dk_at dksX19_meets_0 5 rfl rfl)
theorem dX19_meets_8 : decode cX19_meets 8 = .ok (.lload_n 1, 1) := dk_31 (dk_at dksX19_meets_0 8 rfl rfl)
theorem dX19_meets_9 : decode cX19_meets 9 = .ok (.ladd, 1) := dk_97 (dk_at dksX19_meets_0 9 rfl rfl)
theorem dX19_meets_10 : decode cX19_meets 10 = .ok (.putfield 17, 3) := dk_181 0 17 (dk_at dksX19_meets_0 10 rfl rfl)
theorem dX19_meets_13 : decode cX19_meets 13 = .ok (.return_, 1) := dk_177 (dk_at dksX19_meets_0 13 rfl rfl)
def dkwX19_init_0 : List UInt8 := [42, 43, 181, 0, 1, 42, 28, 181, 0, 7, 42, 43, 183, 0, 11, 177]
abbrev dktX19_init_0 : List UInt8 := dkwX19_init_0 ++ []
theorem dksX19_init_0 : cX19_init.data.toList.drop 0 = dktX19_init_0 := by decide +kernel
theorem dX19_init_0 : decode cX19_init 0 = .ok (.aload_n 0, 1) := dk_42 (dk_at dksX19_init_0 0 rfl rfl)
theorem dX19_init_1 : decode cX19_init 1 = .ok (.aload_n 1, 1) := dk_43 (dk_at dksX19_init_0 1 rfl rfl)
theorem dX19_init_2 : decode cX19_init 2 = .ok (.putfield 1, 3) := dk_181 0 1 (dk_at dksX19_init_0 2 rfl rfl)
theorem dX19_init_5 : decode cX19_init 5 = .ok (.aload_n 0, 1) := dk_42 (dk_at dksX19_init_0 5 rfl rfl)
theorem dX19_init_6 : decode cX19_init 6 = .ok (.iload_n 2, 1) := dk_28 (dk_at dksX19_init_0 6 rfl rfl)
theorem dX19_init_7 : decode cX19_init 7 = .ok (.putfield 7, 3) := dk_181 0 7 (dk_at dksX19_init_0 7 rfl rfl)
theorem dX19_init_10 : decode cX19_init 10 = .ok (.aload_n 0, 1) := dk_42 (dk_at dksX19_init_0 10 rfl rfl)
theorem dX19_init_11 : decode cX19_init 11 = .ok (.aload_n 1, 1) := dk_43 (dk_at dksX19_init_0 11 rfl rfl)
theorem dX19_init_12 : decode cX19_init 12 = .ok (.invokespecial 11, 3) := dk_183 0 11 (dk_at dksX19_init_0 12 rfl rfl)
theorem dX19_init_15 : decode cX19_init 15 = .ok (.return_, 1) := dk_177 (dk_at dksX19_init_0 15 rfl rfl)
def dkwX20_compareTo_0 : List UInt8 := [42, 43, 192, 0, 8, 182, 0, 31, 172]
abbrev dktX20_compareTo_0 : List UInt8 := dkwX20_compareTo_0 ++ []
theorem dksX20_compareTo_0 : cX20_compareTo.data.toList.drop 0 = dktX20_compareTo_0 := by decide +kernel
theorem dX20_compareTo_0 : decode cX20_compareTo 0 = .ok (.aload_n 0, 1) := dk_42 (dk_at dksX20_compareTo_0 0 rfl rfl)
theorem dX20_compareTo_1 : decode cX20_compareTo 1 = .ok (.aload_n 1, 1) := dk_43 (dk_at dksX20_compareTo_0 1 rfl rfl)
theorem dX20_compareTo_2 : decode cX20_compareTo 2 = .ok (.checkcast 8, 3) := dk_192 0 8 (dk_at dksX20_compareTo_0 2 rfl rfl)
theorem dX20_compareTo_5 : decode cX20_compareTo 5 = .ok (.invokevirtual 31, 3) := dk_182 0 31 (dk_at dksX20_compareTo_0 5 rfl rfl)
theorem dX20_compareTo_8 : decode cX20_compareTo 8 = .ok (.ireturn, 1) := dk_172 (dk_at dksX20_compareTo_0 8 rfl rfl)
def dkwX20_compareTo_2_1 : List UInt8 := [180, 0, 7, 43, 180, 0, 7, 184, 0, 25, 172]
abbrev dktX20_compareTo_2_1 : List UInt8 := dkwX20_compareTo_2_1 ++ []
def dkwX20_compareTo_2_0 : List UInt8 := [42, 180, 0, 16, 43, 180, 0, 16, 159, 0, 15, 42, 180, 0, 16, 43, 180, 0, 16, 100, 167, 0, 14, 42]
abbrev dktX20_compareTo_2_0 : List UInt8 := dkwX20_compareTo_2_0 ++ dktX20_compareTo_2_1
theorem dksX20_compareTo_2_0 : cX20_compareTo_2.data.toList.drop 0 = dktX20_compareTo_2_0 := by decide +kernel
theorem dksX20_compareTo_2_1 : cX20_compareTo_2.data.toList.drop 24 = dktX20_compareTo_2_1 := dk_seg dksX20_compareTo_2_0 24 rfl rfl
theorem dX20_compareTo_2_0 : decode cX20_compareTo_2 0 = .ok (.aload_n 0, 1) := dk_42 (dk_at dksX20_compareTo_2_0 0 rfl rfl)
theorem dX20_compareTo_2_1 : decode cX20_compareTo_2 1 = .ok (.getfield 16, 3) := dk_180 0 16 (dk_at dksX20_compareTo_2_0 1 rfl rfl)
theorem dX20_compareTo_2_4 : decode cX20_compareTo_2 4 = .ok (.aload_n 1, 1) := dk_43 (dk_at dksX20_compareTo_2_0 4 rfl rfl)
theorem dX20_compareTo_2_5 : decode cX20_compareTo_2 5 = .ok (.getfield 16, 3) := dk_180 0 16 (dk_at dksX20_compareTo_2_0 5 rfl rfl)
theorem dX20_compareTo_2_8 : decode cX20_compareTo_2 8 = .ok (.if_icmp .eq 15, 3) := dk_159 0 15 (dk_at dksX20_compareTo_2_0 8 rfl rfl)
theorem dX20_compareTo_2_11 : decode cX20_compareTo_2 11 = .ok (.aload_n 0, 1) := dk_42 (dk_at dksX20_compareTo_2_0 11 rfl rfl)
theorem dX20_compareTo_2_12 : decode cX20_compareTo_2 12 = .ok (.getfield 16, 3) := dk_180 0 16 (dk_at dksX20_compareTo_2_0 12 rfl rfl)
theorem dX20_compareTo_2_15 : decode cX20_compareTo_2 15 = .ok (.aload_n 1, 1) := dk_43 (dk_at dksX20_compareTo_2_0 15 rfl rfl)
theorem dX20_compareTo_2_16 : decode cX20_compareTo_2 16 = .ok (.getfield 16, 3) := dk_180 0 16 (dk_at dksX20_compareTo_2_0 16 rfl rfl)
theorem dX20_compareTo_2_19 : decode cX20_compareTo_2 19 = .ok (.isub, 1) := dk_100 (dk_at dksX20_compareTo_2_0 19 rfl rfl)
theorem dX20_compareTo_2_20 : decode cX20_compareTo_2 20 = .ok (.goto 14, 3) := dk_167 0 14 (dk_at dksX20_compareTo_2_0 20 rfl rfl)
theorem dX20_compareTo_2_23 : decode cX20_compareTo_2 23 = .ok (.aload_n 0, 1) := dk_42 (dk_at dksX20_compareTo_2_0 23 rfl rfl)
theorem dX20_compareTo_2_24 : decode cX20_compareTo_2 24 = .ok (.getfield 7, 3) := dk_180 0 7 (dk_at dksX20_compareTo_2_1 0 rfl rfl)
theorem dX20_compareTo_2_27 : decode cX20_compareTo_2 27 = .ok (.aload_n 1, 1) := dk_43 (dk_at dksX20_compareTo_2_1 3 rfl rfl)
theorem dX20_compareTo_2_28 : decode cX20_compareTo_2 28 = .ok (.getfield 7, 3) := dk_180 0 7 (dk_at dksX20_compareTo_2_1 4 rfl rfl)
theorem dX20_compareTo_2_31 : decode cX20_compareTo_2 31 = .ok (.invokestatic 25, 3) := dk_184 0 25 (dk_at dksX20_compareTo_2_1 7 rfl rfl)
theorem dX20_compareTo_2_34 : decode cX20_compareTo_2 34 = .ok (.ireturn, 1) := dk_172 (dk_at dksX20_compareTo_2_1 10 rfl rfl)
def dkwX20_init_0 : List UInt8 := [42, 183, 0, 1, 42, 27, 181, 0, 7, 42, 28, 181, 0, 13, 42, 29, 181, 0, 16, 177]
abbrev dktX20_init_0 : List UInt8 := dkwX20_init_0 ++ []
theorem dksX20_init_0 : cX20_init.data.toList.drop 0 = dktX20_init_0 := by decide +kernel
theorem dX20_init_0 : decode cX20_init 0 = .ok (.aload_n 0, 1) := dk_42 (dk_at dksX20_init_0 0 rfl rfl)
theorem dX20_init_1 : decode cX20_init 1 = .ok (.invokespecial 1, 3) := dk_183 0 1 (dk_at dksX20_init_0 1 rfl rfl)
theorem dX20_init_4 : decode cX20_init 4 = .ok (.aload_n 0, 1) := dk_42 (dk_at dksX20_init_0 4 rfl rfl)
theorem dX20_init_5 : decode cX20_init 5 = .ok (.iload_n 1, 1) := dk_27 (dk_at dksX20_init_0 5 rfl rfl)
theorem dX20_init_6 : decode cX20_init 6 = .ok (.putfield 7, 3) := dk_181 0 7 (dk_at dksX20_init_0 6 rfl rfl)
theorem dX20_init_9 : decode cX20_init 9 = .ok (.aload_n 0, 1) := dk_42 (dk_at dksX20_init_0 9 rfl rfl)
theorem dX20_init_10 : decode cX20_init 10 = .ok (.iload_n 2, 1) := dk_28 (dk_at dksX20_init_0 10 rfl rfl)
theorem dX20_init_11 : decode cX20_init 11 = .ok (.putfield 13, 3) := dk_181 0 13 (dk_at dksX20_init_0 11 rfl rfl)
theorem dX20_init_14 : decode cX20_init 14 = .ok (.aload_n 0, 1) := dk_42 (dk_at dksX20_init_0 14 rfl rfl)
theorem dX20_init_15 : decode cX20_init 15 = .ok (.iload_n 3, 1) := dk_29 (dk_at dksX20_init_0 15 rfl rfl)
theorem dX20_init_16 : decode cX20_init 16 = .ok (.putfield 16, 3) := dk_181 0 16 (dk_at dksX20_init_0 16 rfl rfl)
theorem dX20_init_19 : decode cX20_init 19 = .ok (.return_, 1) := dk_177 (dk_at dksX20_init_0 19 rfl rfl)
def dkwX20_node_0 : List UInt8 := [42, 180, 0, 7, 178, 0, 19, 27, 46, 108, 16, 10, 112, 4, 100, 172]
abbrev dktX20_node_0 : List UInt8 := dkwX20_node_0 ++ []
theorem dksX20_node_0 : cX20_node.data.toList.drop 0 = dktX20_node_0 := by decide +kernel
theorem dX20_node_0 : decode cX20_node 0 = .ok (.aload_n 0, 1) := dk_42 (dk_at dksX20_node_0 0 rfl rfl)
theorem dX20_node_1 : decode cX20_node 1 = .ok (.getfield 7, 3) := dk_180 0 7 (dk_at dksX20_node_0 1 rfl rfl)
theorem dX20_node_4 : decode cX20_node 4 = .ok (.getstatic 19, 3) := dk_178 0 19 (dk_at dksX20_node_0 4 rfl rfl)
theorem dX20_node_7 : decode cX20_node 7 = .ok (.iload_n 1, 1) := dk_27 (dk_at dksX20_node_0 7 rfl rfl)
theorem dX20_node_8 : decode cX20_node 8 = .ok (.iaload, 1) := dk_46 (dk_at dksX20_node_0 8 rfl rfl)
theorem dX20_node_9 : decode cX20_node 9 = .ok (.idiv, 1) := dk_108 (dk_at dksX20_node_0 9 rfl rfl)
theorem dX20_node_10 : decode cX20_node 10 = .ok (.bipush 10, 2) := dk_16 10 (dk_at dksX20_node_0 10 rfl rfl)
theorem dX20_node_12 : decode cX20_node 12 = .ok (.irem, 1) := dk_112 (dk_at dksX20_node_0 12 rfl rfl)
theorem dX20_node_13 : decode cX20_node 13 = .ok (.iconst 1, 1) := dk_4 (dk_at dksX20_node_0 13 rfl rfl)
theorem dX20_node_14 : decode cX20_node 14 = .ok (.isub, 1) := dk_100 (dk_at dksX20_node_0 14 rfl rfl)
theorem dX20_node_15 : decode cX20_node 15 = .ok (.ireturn, 1) := dk_172 (dk_at dksX20_node_0 15 rfl rfl)
