set_option maxRecDepth 100000
abbrev cX2_init : ByteArray := prog_10_method_1_code
def yX2_init : MethodName := ⟨RX2, "<init>", "()V"⟩
def dkwX2_init_4 : List UInt8 := [188, 7, 181, 0, 48, 42, 16, 24, 188, 10, 181, 0, 51, 42, 17, 1, 224, 188, 8, 181, 0, 54, 177]
abbrev dktX2_init_4 : List UInt8 := dkwX2_init_4 ++ []
def dkwX2_init_3 : List UInt8 := [16, 30, 188, 10, 181, 0, 38, 42, 16, 30, 188, 10, 181, 0, 41, 42, 8, 188, 7, 181, 0, 44, 42, 8]
abbrev dktX2_init_3 : List UInt8 := dkwX2_init_3 ++ dktX2_init_4
def dkwX2_init_2 : List UInt8 := [17, 1, 244, 188, 8, 181, 0, 26, 42, 2, 181, 0, 30, 42, 17, 1, 59, 188, 11, 181, 0, 34, 42]
abbrev dktX2_init_2 : List UInt8 := dkwX2_init_2 ++ dktX2_init_3
def dkwX2_init_1 : List UInt8 := [188, 10, 181, 0, 16, 42, 17, 0, 206, 188, 10, 181, 0, 19, 42, 5, 188, 4, 181, 0, 22, 42]
abbrev dktX2_init_1 : List UInt8 := dkwX2_init_1 ++ dktX2_init_2
def dkwX2_init_0 : List UInt8 := [42, 183, 0, 1, 42, 16, 103, 188, 10, 181, 0, 9, 42, 16, 103, 188, 10, 181, 0, 13, 42, 17, 3, 56]
abbrev dktX2_init_0 : List UInt8 := dkwX2_init_0 ++ dktX2_init_1
theorem dksX2_init_0 : cX2_init.data.toList.drop 0 = dktX2_init_0 := by decide +kernel
theorem dksX2_init_1 : cX2_init.data.toList.drop 24 = dktX2_init_1 := dk_seg dksX2_init_0 24 rfl rfl
theorem dksX2_init_2 : cX2_init.data.toList.drop 46 = dktX2_init_2 := dk_seg dksX2_init_1 22 rfl rfl
theorem dksX2_init_3 : cX2_init.data.toList.drop 69 = dktX2_init_3 := dk_seg dksX2_init_2 23 rfl rfl
theorem dksX2_init_4 : cX2_init.data.toList.drop 93 = dktX2_init_4 := dk_seg dksX2_init_3 24 rfl rfl
theorem dX2_init_0 : decode cX2_init 0 = .ok (.aload_n 0, 1) := dk_42 (dk_at dksX2_init_0 0 rfl rfl)
theorem dX2_init_1 : decode cX2_init 1 = .ok (.invokespecial 1, 3) := dk_183 0 1 (dk_at dksX2_init_0 1 rfl rfl)
theorem dX2_init_4 : decode cX2_init 4 = .ok (.aload_n 0, 1) := dk_42 (dk_at dksX2_init_0 4 rfl rfl)
theorem dX2_init_5 : decode cX2_init 5 = .ok (.bipush 103, 2) := dk_16 103 (dk_at dksX2_init_0 5 rfl rfl)
theorem dX2_init_7 : decode cX2_init 7 = .ok (.newarray .int, 2) := dk_188_10 (dk_at dksX2_init_0 7 rfl rfl)
theorem dX2_init_9 : decode cX2_init 9 = .ok (.putfield 9, 3) := dk_181 0 9 (dk_at dksX2_init_0 9 rfl rfl)
theorem dX2_init_12 : decode cX2_init 12 = .ok (.aload_n 0, 1) := dk_42 (dk_at dksX2_init_0 12 rfl rfl)
theorem dX2_init_13 : decode cX2_init 13 = .ok (.bipush 103, 2) := dk_16 103 (dk_at dksX2_init_0 13 rfl rfl)
theorem dX2_init_15 : decode cX2_init 15 = .ok (.newarray .int, 2) := dk_188_10 (dk_at dksX2_init_0 15 rfl rfl)
theorem dX2_init_17 : decode cX2_init 17 = .ok (.putfield 13, 3) := dk_181 0 13 (dk_at dksX2_init_0 17 rfl rfl)
theorem dX2_init_20 : decode cX2_init 20 = .ok (.aload_n 0, 1) := dk_42 (dk_at dksX2_init_0 20 rfl rfl)
theorem dX2_init_21 : decode cX2_init 21 = .ok (.sipush 824, 3) := dk_17 3 56 (dk_at dksX2_init_0 21 rfl rfl)
theorem dX2_init_24 : decode cX2_init 24 = .ok (.newarray .int, 2) := dk_188_10 (dk_at dksX2_init_1 0 rfl rfl)
theorem dX2_init_26 : decode cX2_init 26 = .ok (.putfield 16, 3) := dk_181 0 16 (dk_at dksX2_init_1 2 rfl rfl)
theorem dX2_init_29 : decode cX2_init 29 = .ok (.aload_n 0, 1) := dk_42 (dk_at dksX2_init_1 5 rfl rfl)
theorem dX2_init_30 : decode cX2_init 30 = .ok (.sipush 206, 3) := dk_17 0 206 (dk_at dksX2_init_1 6 rfl rfl)
theorem dX2_init_33 : decode cX2_init 33 = .ok (.newarray .int, 2) := dk_188_10 (dk_at dksX2_init_1 9 rfl rfl)
theorem dX2_init_35 : decode cX2_init 35 = .ok (.putfield 19, 3) := dk_181 0 19 (dk_at dksX2_init_1 11 rfl rfl)
theorem dX2_init_38 : decode cX2_init 38 = .ok (.aload_n 0, 1) := dk_42 (dk_at dksX2_init_1 14 rfl rfl)
theorem dX2_init_39 : decode cX2_init 39 = .ok (.iconst 2, 1) := dk_5 (dk_at dksX2_init_1 15 rfl rfl)
theorem dX2_init_40 : decode cX2_init 40 = .ok (.newarray .boolean, 2) := dk_188_4 (dk_at dksX2_init_1 16 rfl rfl)
theorem dX2_init_42 : decode cX2_init 42 = .ok (.putfield 22, 3) := dk_181 0 22 (dk_at dksX2_init_1 18 rfl rfl)
theorem dX2_init_45 : decode cX2_init 45 = .ok (.aload_n 0, 1) := dk_42 (dk_at dksX2_init_1 21 rfl rfl)
theorem dX2_init_46 : decode cX2_init 46 = .ok (.sipush 500, 3) := dk_17 1 244 (dk_at dksX2_init_2 0 rfl rfl)
theorem dX2_init_49 : decode cX2_init 49 = .ok (.newarray .byte, 2) := dk_188_8 (dk_at dksX2_init_2 3 rfl rfl)
theorem dX2_init_51 : decode cX2_init 51 = .ok (.putfield 26, 3) := dk_181 0 26 (dk_at dksX2_init_2 5 rfl rfl)
theorem dX2_init_54 : decode cX2_init 54 = .ok (.aload_n 0, 1) := dk_42 (dk_at dksX2_init_2 8 rfl rfl)
theorem dX2_init_55 : decode cX2_init 55 = .ok (.iconst (-1), 1) := dk_2 (dk_at dksX2_init_2 9 rfl rfl)
theorem dX2_init_56 : decode cX2_init 56 = .ok (.putfield 30, 3) := dk_181 0 30 (dk_at dksX2_init_2 10 rfl rfl)
theorem dX2_init_59 : decode cX2_init 59 = .ok (.aload_n 0, 1) := dk_42 (dk_at dksX2_init_2 13 rfl rfl)
theorem dX2_init_60 : decode cX2_init 60 = .ok (.sipush 315, 3) := dk_17 1 59 (dk_at dksX2_init_2 14 rfl rfl)
theorem dX2_init_63 : decode cX2_init 63 = .ok (.newarray .long, 2) := dk_188_11 (dk_at dksX2_init_2 17 rfl rfl)
theorem dX2_init_65 : decode cX2_init 65 = .ok (.putfield 34, 3) := dk_181 0 34 (dk_at dksX2_init_2 19 rfl rfl)
theorem dX2_init_68 : decode cX2_init 68 = .ok (.aload_n 0, 1) := dk_42 (dk_at dksX2_init_2 22 rfl rfl)
theorem dX2_init_69 : decode cX2_init 69 = .ok (.bipush 30, 2) := dk_16 30 (dk_at dksX2_init_3 0 rfl rfl)
theorem dX2_init_71 : decode cX2_init 71 = .ok (.newarray .int, 2) := dk_188_10 (dk_at dksX2_init_3 2 rfl rfl)
theorem dX2_init_73 : decode cX2_init 73 = .ok (.putfield 38, 3) := dk_181 0 38 (dk_at dksX2_init_3 4 rfl rfl)
theorem dX2_init_76 : decode cX2_init 76 = .ok (.aload_n 0, 1) := dk_42 (dk_at dksX2_init_3 7 rfl rfl)
theorem dX2_init_77 : decode cX2_init 77 = .ok (.bipush 30, 2) := dk_16 30 (dk_at dksX2_init_3 8 rfl rfl)
theorem dX2_init_79 : decode cX2_init 79 = .ok (.newarray .int, 2) := dk_188_10 (dk_at dksX2_init_3 10 rfl rfl)
theorem dX2_init_81 : decode cX2_init 81 = .ok (.putfield 41, 3) := dk_181 0 41 (dk_at dksX2_init_3 12 rfl rfl)
theorem dX2_init_84 : decode cX2_init 84 = .ok (.aload_n 0, 1) := dk_42 (dk_at dksX2_init_3 15 rfl rfl)
theorem dX2_init_85 : decode cX2_init 85 = .ok (.iconst 5, 1) := dk_8 (dk_at dksX2_init_3 16 rfl rfl)
theorem dX2_init_86 : decode cX2_init 86 = .ok (.newarray .double, 2) := dk_188_7 (dk_at dksX2_init_3 17 rfl rfl)
theorem dX2_init_88 : decode cX2_init 88 = .ok (.putfield 44, 3) := dk_181 0 44 (dk_at dksX2_init_3 19 rfl rfl)
theorem dX2_init_91 : decode cX2_init 91 = .ok (.aload_n 0, 1) := dk_42 (dk_at dksX2_init_3 22 rfl rfl)
theorem dX2_init_92 : decode cX2_init 92 = .ok (.iconst 5, 1) := dk_8 (dk_at dksX2_init_3 23 rfl rfl)
theorem dX2_init_93 : decode cX2_init 93 = .ok (.newarray .double, 2) := dk_188_7 (dk_at dksX2_init_4 0 rfl rfl)
theorem dX2_init_95 : decode cX2_init 95 = .ok (.putfield 48, 3) := dk_181 0 48 (dk_at dksX2_init_4 2 rfl rfl)
theorem dX2_init_98 : decode cX2_init 98 = .ok (.aload_n 0, 1) := dk_42 (dk_at dksX2_init_4 5 rfl rfl)
theorem dX2_init_99 : decode cX2_init 99 = .ok (.bipush 24, 2) := dk_16 24 (dk_at dksX2_init_4 6 rfl rfl)
theorem dX2_init_101 : decode cX2_init 101 = .ok (.newarray .int, 2) := dk_188_10 (dk_at dksX2_init_4 8 rfl rfl)
theorem dX2_init_103 : decode cX2_init 103 = .ok (.putfield 51, 3) := dk_181 0 51 (dk_at dksX2_init_4 10 rfl rfl)
theorem dX2_init_106 : decode cX2_init 106 = .ok (.aload_n 0, 1) := dk_42 (dk_at dksX2_init_4 13 rfl rfl)
theorem dX2_init_107 : decode cX2_init 107 = .ok (.sipush 480, 3) := dk_17 1 224 (dk_at dksX2_init_4 14 rfl rfl)
theorem dX2_init_110 : decode cX2_init 110 = .ok (.newarray .byte, 2) := dk_188_8 (dk_at dksX2_init_4 17 rfl rfl)
theorem dX2_init_112 : decode cX2_init 112 = .ok (.putfield 54, 3) := dk_181 0 54 (dk_at dksX2_init_4 19 rfl rfl)
theorem dX2_init_115 : decode cX2_init 115 = .ok (.return_, 1) := dk_177 (dk_at dksX2_init_4 22 rfl rfl)
abbrev cX2_thrown : ByteArray := prog_10_method_2_code
def yX2_thrown : MethodName := ⟨RX2, "thrown", "()I"⟩
theorem dX2_thrown_0 : decode cX2_thrown 0 = .ok (.aload_n 0, 1) := by decide +kernel
theorem dX2_thrown_1 : decode cX2_thrown 1 = .ok (.getfield 57, 3) := by decide +kernel
theorem dX2_thrown_4 : decode cX2_thrown 4 = .ok (.ireturn, 1) := by decide +kernel
abbrev cX2_four : ByteArray := prog_10_method_9_code
def yX2_four : MethodName := ⟨RX2, "four", "(I)V"⟩
def dkwX2_four_1 : List UInt8 := [180, 0, 64, 4, 96, 181, 0, 64, 132, 2, 255, 167, 255, 223, 177]
abbrev dktX2_four_1 : List UInt8 := dkwX2_four_1 ++ []
def dkwX2_four_0 : List UInt8 := [6, 61, 28, 155, 0, 35, 42, 180, 0, 26, 42, 180, 0, 64, 27, 16, 8, 28, 104, 122, 145, 84, 42, 89]
abbrev dktX2_four_0 : List UInt8 := dkwX2_four_0 ++ dktX2_four_1
theorem dksX2_four_0 : cX2_four.data.toList.drop 0 = dktX2_four_0 := by decide +kernel
theorem dksX2_four_1 : cX2_four.data.toList.drop 24 = dktX2_four_1 := dk_seg dksX2_four_0 24 rfl rfl
theorem dX2_four_0 : decode cX2_four 0 = .ok (.iconst 3, 1) := dk_6 (dk_at dksX2_four_0 0 rfl rfl)
theorem dX2_four_1 : decode cX2_four 1 = .ok (.istore_n 2, 1) := dk_61 (dk_at dksX2_four_0 1 rfl rfl)
theorem dX2_four_2 : decode cX2_four 2 = .ok (.iload_n 2, 1) := dk_28 (dk_at dksX2_four_0 2 rfl rfl)
theorem dX2_four_3 : decode cX2_four 3 = .ok (.ifCond .lt 35, 3) := dk_155 0 35 (dk_at dksX2_four_0 3 rfl rfl)
theorem dX2_four_6 : decode cX2_four 6 = .ok (.aload_n 0, 1) := dk_42 (dk_at dksX2_four_0 6 rfl rfl)
theorem dX2_four_7 : decode cX2_four 7 = .ok (.getfield 26, 3) := dk_180 0 26 (dk_at dksX2_four_0 7 rfl rfl)
theorem dX2_four_10 : decode cX2_four 10 = .ok (.aload_n 0, 1) := dk_42 (dk_at dksX2_four_0 10 rfl rfl)
theorem dX2_four_11 : decode cX2_four 11 = .ok (.getfield 64, 3) := dk_180 0 64 (dk_at dksX2_four_0 11 rfl rfl)
theorem dX2_four_14 : decode cX2_four 14 = .ok (.iload_n 1, 1) := dk_27 (dk_at dksX2_four_0 14 rfl rfl)
theorem dX2_four_15 : decode cX2_four 15 = .ok (.bipush 8, 2) := dk_16 8 (dk_at dksX2_four_0 15 rfl rfl)
theorem dX2_four_17 : decode cX2_four 17 = .ok (.iload_n 2, 1) := dk_28 (dk_at dksX2_four_0 17 rfl rfl)
theorem dX2_four_18 : decode cX2_four 18 = .ok (.imul, 1) := dk_104 (dk_at dksX2_four_0 18 rfl rfl)
theorem dX2_four_19 : decode cX2_four 19 = .ok (.ishr, 1) := dk_122 (dk_at dksX2_four_0 19 rfl rfl)
theorem dX2_four_20 : decode cX2_four 20 = .ok (.i2b, 1) := dk_145 (dk_at dksX2_four_0 20 rfl rfl)
theorem dX2_four_21 : decode cX2_four 21 = .ok (.bastore, 1) := dk_84 (dk_at dksX2_four_0 21 rfl rfl)
theorem dX2_four_22 : decode cX2_four 22 = .ok (.aload_n 0, 1) := dk_42 (dk_at dksX2_four_0 22 rfl rfl)
theorem dX2_four_23 : decode cX2_four 23 = .ok (.dup, 1) := dk_89 (dk_at dksX2_four_0 23 rfl rfl)
theorem dX2_four_24 : decode cX2_four 24 = .ok (.getfield 64, 3) := dk_180 0 64 (dk_at dksX2_four_1 0 rfl rfl)
theorem dX2_four_27 : decode cX2_four 27 = .ok (.iconst 1, 1) := dk_4 (dk_at dksX2_four_1 3 rfl rfl)
theorem dX2_four_28 : decode cX2_four 28 = .ok (.iadd, 1) := dk_96 (dk_at dksX2_four_1 4 rfl rfl)
theorem dX2_four_29 : decode cX2_four 29 = .ok (.putfield 64, 3) := dk_181 0 64 (dk_at dksX2_four_1 5 rfl rfl)
theorem dX2_four_32 : decode cX2_four 32 = .ok (.iinc 2 (-1), 3) := dk_132 2 255 (dk_at dksX2_four_1 8 rfl rfl)
theorem dX2_four_35 : decode cX2_four 35 = .ok (.goto (-33), 3) := dk_167 255 223 (dk_at dksX2_four_1 11 rfl rfl)
theorem dX2_four_38 : decode cX2_four 38 = .ok (.return_, 1) := dk_177 (dk_at dksX2_four_1 14 rfl rfl)
abbrev cX2_append : ByteArray := prog_10_method_8_code
def yX2_append : MethodName := ⟨RX2, "append", "(IIIII)I"⟩
def dkwX2_append_2 : List UInt8 := [172]
abbrev dktX2_append_2 : List UInt8 := dkwX2_append_2 ++ []
def dkwX2_append_1 : List UInt8 := [182, 0, 67, 42, 29, 182, 0, 67, 42, 21, 4, 182, 0, 67, 42, 21, 5, 182, 0, 67, 42, 180, 0, 64]
abbrev dktX2_append_1 : List UInt8 := dkwX2_append_1 ++ dktX2_append_2
def dkwX2_append_0 : List UInt8 := [42, 3, 181, 0, 57, 42, 180, 0, 64, 17, 1, 224, 164, 0, 5, 2, 172, 42, 27, 182, 0, 67, 42, 28]
abbrev dktX2_append_0 : List UInt8 := dkwX2_append_0 ++ dktX2_append_1
theorem dksX2_append_0 : cX2_append.data.toList.drop 0 = dktX2_append_0 := by decide +kernel
theorem dksX2_append_1 : cX2_append.data.toList.drop 24 = dktX2_append_1 := dk_seg dksX2_append_0 24 rfl rfl
theorem dksX2_append_2 : cX2_append.data.toList.drop 48 = dktX2_append_2 := dk_seg dksX2_append_1 24 rfl rfl
theorem dX2_append_0 : decode cX2_append 0 = .ok (.aload_n 0, 1) := dk_42 (dk_at dksX2_append_0 0 rfl rfl)
theorem dX2_append_1 : decode cX2_append 1 = .ok (.iconst 0, 1) := dk_3 (dk_at dksX2_append_0 1 rfl rfl)
theorem dX2_append_2 : decode cX2_append 2 = .ok (.putfield 57, 3) := dk_181 0 57 (dk_at dksX2_append_0 2 rfl rfl)
theorem dX2_append_5 : decode cX2_append 5 = .ok (.aload_n 0, 1) := dk_42 (dk_at dksX2_append_0 5 rfl rfl)
theorem dX2_append_6 : decode cX2_append 6 = .ok (.getfield 64, 3) := dk_180 0 64 (dk_at dksX2_append_0 6 rfl rfl)
theorem dX2_append_9 : decode cX2_append 9 = .ok (.sipush 480, 3) := dk_17 1 224 (dk_at dksX2_append_0 9 rfl rfl)
theorem dX2_append_12 : decode cX2_append 12 = .ok (.if_icmp .le 5, 3) := dk_164 0 5 (dk_at dksX2_append_0 12 rfl rfl)
theorem dX2_append_15 : decode cX2_append 15 = .ok (.iconst (-1), 1) := dk_2 (dk_at dksX2_append_0 15 rfl rfl)
theorem dX2_append_16 : decode cX2_append 16 = .ok (.ireturn, 1) := dk_172 (dk_at dksX2_append_0 16 rfl rfl)
theorem dX2_append_17 : decode cX2_append 17 = .ok (.aload_n 0, 1) := dk_42 (dk_at dksX2_append_0 17 rfl rfl)
theorem dX2_append_18 : decode cX2_append 18 = .ok (.iload_n 1, 1) := dk_27 (dk_at dksX2_append_0 18 rfl rfl)
theorem dX2_append_19 : decode cX2_append 19 = .ok (.invokevirtual 67, 3) := dk_182 0 67 (dk_at dksX2_append_0 19 rfl rfl)
theorem dX2_append_22 : decode cX2_append 22 = .ok (.aload_n 0, 1) := dk_42 (dk_at dksX2_append_0 22 rfl rfl)
theorem dX2_append_23 : decode cX2_append 23 = .ok (.iload_n 2, 1) := dk_28 (dk_at dksX2_append_0 23 rfl rfl)
theorem dX2_append_24 : decode cX2_append 24 = .ok (.invokevirtual 67, 3) := dk_182 0 67 (dk_at dksX2_append_1 0 rfl rfl)
theorem dX2_append_27 : decode cX2_append 27 = .ok (.aload_n 0, 1) := dk_42 (dk_at dksX2_append_1 3 rfl rfl)
theorem dX2_append_28 : decode cX2_append 28 = .ok (.iload_n 3, 1) := dk_29 (dk_at dksX2_append_1 4 rfl rfl)
theorem dX2_append_29 : decode cX2_append 29 = .ok (.invokevirtual 67, 3) := dk_182 0 67 (dk_at dksX2_append_1 5 rfl rfl)
theorem dX2_append_32 : decode cX2_append 32 = .ok (.aload_n 0, 1) := dk_42 (dk_at dksX2_append_1 8 rfl rfl)
theorem dX2_append_33 : decode cX2_append 33 = .ok (.iload 4, 2) := dk_21 4 (dk_at dksX2_append_1 9 rfl rfl)
theorem dX2_append_35 : decode cX2_append 35 = .ok (.invokevirtual 67, 3) := dk_182 0 67 (dk_at dksX2_append_1 11 rfl rfl)
theorem dX2_append_38 : decode cX2_append 38 = .ok (.aload_n 0, 1) := dk_42 (dk_at dksX2_append_1 14 rfl rfl)
theorem dX2_append_39 : decode cX2_append 39 = .ok (.iload 5, 2) := dk_21 5 (dk_at dksX2_append_1 15 rfl rfl)
theorem dX2_append_41 : decode cX2_append 41 = .ok (.invokevirtual 67, 3) := dk_182 0 67 (dk_at dksX2_append_1 17 rfl rfl)
theorem dX2_append_44 : decode cX2_append 44 = .ok (.aload_n 0, 1) := dk_42 (dk_at dksX2_append_1 20 rfl rfl)
theorem dX2_append_45 : decode cX2_append 45 = .ok (.getfield 64, 3) := dk_180 0 64 (dk_at dksX2_append_1 21 rfl rfl)
theorem dX2_append_48 : decode cX2_append 48 = .ok (.ireturn, 1) := dk_172 (dk_at dksX2_append_2 0 rfl rfl)
abbrev cX2_parseError : ByteArray := prog_10_method_10_code
def yX2_parseError : MethodName := ⟨RX2, "parseError", "()I"⟩
def dkwX2_parseError_0 : List UInt8 := [42, 3, 181, 0, 57, 42, 180, 0, 71, 172]
abbrev dktX2_parseError_0 : List UInt8 := dkwX2_parseError_0 ++ []
theorem dksX2_parseError_0 : cX2_parseError.data.toList.drop 0 = dktX2_parseError_0 := by decide +kernel
theorem dX2_parseError_0 : decode cX2_parseError 0 = .ok (.aload_n 0, 1) := dk_42 (dk_at dksX2_parseError_0 0 rfl rfl)
theorem dX2_parseError_1 : decode cX2_parseError 1 = .ok (.iconst 0, 1) := dk_3 (dk_at dksX2_parseError_0 1 rfl rfl)
theorem dX2_parseError_2 : decode cX2_parseError 2 = .ok (.putfield 57, 3) := dk_181 0 57 (dk_at dksX2_parseError_0 2 rfl rfl)
theorem dX2_parseError_5 : decode cX2_parseError 5 = .ok (.aload_n 0, 1) := dk_42 (dk_at dksX2_parseError_0 5 rfl rfl)
theorem dX2_parseError_6 : decode cX2_parseError 6 = .ok (.getfield 71, 3) := dk_180 0 71 (dk_at dksX2_parseError_0 6 rfl rfl)
theorem dX2_parseError_9 : decode cX2_parseError 9 = .ok (.ireturn, 1) := dk_172 (dk_at dksX2_parseError_0 9 rfl rfl)
abbrev cX2_errorPosition : ByteArray := prog_10_method_11_code
def yX2_errorPosition : MethodName := ⟨RX2, "errorPosition", "()I"⟩
def dkwX2_errorPosition_0 : List UInt8 := [42, 3, 181, 0, 57, 42, 180, 0, 30, 172]
abbrev dktX2_errorPosition_0 : List UInt8 := dkwX2_errorPosition_0 ++ []
theorem dksX2_errorPosition_0 : cX2_errorPosition.data.toList.drop 0 = dktX2_errorPosition_0 := by decide +kernel
theorem dX2_errorPosition_0 : decode cX2_errorPosition 0 = .ok (.aload_n 0, 1) := dk_42 (dk_at dksX2_errorPosition_0 0 rfl rfl)
theorem dX2_errorPosition_1 : decode cX2_errorPosition 1 = .ok (.iconst 0, 1) := dk_3 (dk_at dksX2_errorPosition_0 1 rfl rfl)
theorem dX2_errorPosition_2 : decode cX2_errorPosition 2 = .ok (.putfield 57, 3) := dk_181 0 57 (dk_at dksX2_errorPosition_0 2 rfl rfl)
theorem dX2_errorPosition_5 : decode cX2_errorPosition 5 = .ok (.aload_n 0, 1) := dk_42 (dk_at dksX2_errorPosition_0 5 rfl rfl)
theorem dX2_errorPosition_6 : decode cX2_errorPosition 6 = .ok (.getfield 30, 3) := dk_180 0 30 (dk_at dksX2_errorPosition_0 6 rfl rfl)
theorem dX2_errorPosition_9 : decode cX2_errorPosition 9 = .ok (.ireturn, 1) := dk_172 (dk_at dksX2_errorPosition_0 9 rfl rfl)
abbrev cX2_buffered : ByteArray := prog_10_method_12_code
def yX2_buffered : MethodName := ⟨RX2, "buffered", "()I"⟩
def dkwX2_buffered_0 : List UInt8 := [42, 3, 181, 0, 57, 42, 180, 0, 64, 172]
abbrev dktX2_buffered_0 : List UInt8 := dkwX2_buffered_0 ++ []
theorem dksX2_buffered_0 : cX2_buffered.data.toList.drop 0 = dktX2_buffered_0 := by decide +kernel
theorem dX2_buffered_0 : decode cX2_buffered 0 = .ok (.aload_n 0, 1) := dk_42 (dk_at dksX2_buffered_0 0 rfl rfl)
theorem dX2_buffered_1 : decode cX2_buffered 1 = .ok (.iconst 0, 1) := dk_3 (dk_at dksX2_buffered_0 1 rfl rfl)
theorem dX2_buffered_2 : decode cX2_buffered 2 = .ok (.putfield 57, 3) := dk_181 0 57 (dk_at dksX2_buffered_0 2 rfl rfl)
theorem dX2_buffered_5 : decode cX2_buffered 5 = .ok (.aload_n 0, 1) := dk_42 (dk_at dksX2_buffered_0 5 rfl rfl)
theorem dX2_buffered_6 : decode cX2_buffered 6 = .ok (.getfield 64, 3) := dk_180 0 64 (dk_at dksX2_buffered_0 6 rfl rfl)
theorem dX2_buffered_9 : decode cX2_buffered 9 = .ok (.ireturn, 1) := dk_172 (dk_at dksX2_buffered_0 9 rfl rfl)
abbrev cX2_in : ByteArray := prog_10_method_3_code
def yX2_in : MethodName := ⟨RX2, "in", "(III)Z"⟩
def dkwX2_in_0 : List UInt8 := [26, 27, 161, 0, 12, 26, 28, 163, 0, 7, 4, 167, 0, 4, 3, 172]
abbrev dktX2_in_0 : List UInt8 := dkwX2_in_0 ++ []
theorem dksX2_in_0 : cX2_in.data.toList.drop 0 = dktX2_in_0 := by decide +kernel
theorem dX2_in_0 : decode cX2_in 0 = .ok (.iload_n 0, 1) := dk_26 (dk_at dksX2_in_0 0 rfl rfl)
theorem dX2_in_1 : decode cX2_in 1 = .ok (.iload_n 1, 1) := dk_27 (dk_at dksX2_in_0 1 rfl rfl)
theorem dX2_in_2 : decode cX2_in 2 = .ok (.if_icmp .lt 12, 3) := dk_161 0 12 (dk_at dksX2_in_0 2 rfl rfl)
theorem dX2_in_5 : decode cX2_in 5 = .ok (.iload_n 0, 1) := dk_26 (dk_at dksX2_in_0 5 rfl rfl)
theorem dX2_in_6 : decode cX2_in 6 = .ok (.iload_n 2, 1) := dk_28 (dk_at dksX2_in_0 6 rfl rfl)
theorem dX2_in_7 : decode cX2_in 7 = .ok (.if_icmp .gt 7, 3) := dk_163 0 7 (dk_at dksX2_in_0 7 rfl rfl)
theorem dX2_in_10 : decode cX2_in 10 = .ok (.iconst 1, 1) := dk_4 (dk_at dksX2_in_0 10 rfl rfl)
theorem dX2_in_11 : decode cX2_in 11 = .ok (.goto 4, 3) := dk_167 0 4 (dk_at dksX2_in_0 11 rfl rfl)
theorem dX2_in_14 : decode cX2_in 14 = .ok (.iconst 0, 1) := dk_3 (dk_at dksX2_in_0 14 rfl rfl)
theorem dX2_in_15 : decode cX2_in 15 = .ok (.ireturn, 1) := dk_172 (dk_at dksX2_in_0 15 rfl rfl)
abbrev cX2_may : ByteArray := prog_10_method_5_code
def yX2_may : MethodName := ⟨RX2, "may", "(ZZZ)Z"⟩
def dkwX2_may_1 : List UInt8 := [167, 0, 4, 6, 181, 0, 57, 42, 180, 0, 57, 154, 0, 7, 4, 167, 0, 4, 3, 172]
abbrev dktX2_may_1 : List UInt8 := dkwX2_may_1 ++ []
def dkwX2_may_0 : List UInt8 := [42, 27, 154, 0, 7, 4, 167, 0, 20, 28, 154, 0, 7, 5, 167, 0, 12, 29, 153, 0, 7, 3]
abbrev dktX2_may_0 : List UInt8 := dkwX2_may_0 ++ dktX2_may_1
theorem dksX2_may_0 : cX2_may.data.toList.drop 0 = dktX2_may_0 := by decide +kernel
theorem dksX2_may_1 : cX2_may.data.toList.drop 22 = dktX2_may_1 := dk_seg dksX2_may_0 22 rfl rfl
theorem dX2_may_0 : decode cX2_may 0 = .ok (.aload_n 0, 1) := dk_42 (dk_at dksX2_may_0 0 rfl rfl)
theorem dX2_may_1 : decode cX2_may 1 = .ok (.iload_n 1, 1) := dk_27 (dk_at dksX2_may_0 1 rfl rfl)
theorem dX2_may_2 : decode cX2_may 2 = .ok (.ifCond .ne 7, 3) := dk_154 0 7 (dk_at dksX2_may_0 2 rfl rfl)
theorem dX2_may_5 : decode cX2_may 5 = .ok (.iconst 1, 1) := dk_4 (dk_at dksX2_may_0 5 rfl rfl)
theorem dX2_may_6 : decode cX2_may 6 = .ok (.goto 20, 3) := dk_167 0 20 (dk_at dksX2_may_0 6 rfl rfl)
theorem dX2_may_9 : decode cX2_may 9 = .ok (.iload_n 2, 1) := dk_28 (dk_at dksX2_may_0 9 rfl rfl)
theorem dX2_may_10 : decode cX2_may 10 = .ok (.ifCond .ne 7, 3) := dk_154 0 7 (dk_at dksX2_may_0 10 rfl rfl)
theorem dX2_may_13 : decode cX2_may 13 = .ok (.iconst 2, 1) := dk_5 (dk_at dksX2_may_0 13 rfl rfl)
theorem dX2_may_14 : decode cX2_may 14 = .ok (.goto 12, 3) := dk_167 0 12 (dk_at dksX2_may_0 14 rfl rfl)
theorem dX2_may_17 : decode cX2_may 17 = .ok (.iload_n 3, 1) := dk_29 (dk_at dksX2_may_0 17 rfl rfl)
theorem dX2_may_18 : decode cX2_may 18 = .ok (.ifCond .eq 7, 3) := dk_153 0 7 (dk_at dksX2_may_0 18 rfl rfl)
theorem dX2_may_21 : decode cX2_may 21 = .ok (.iconst 0, 1) := dk_3 (dk_at dksX2_may_0 21 rfl rfl)
theorem dX2_may_22 : decode cX2_may 22 = .ok (.goto 4, 3) := dk_167 0 4 (dk_at dksX2_may_1 0 rfl rfl)
theorem dX2_may_25 : decode cX2_may 25 = .ok (.iconst 3, 1) := dk_6 (dk_at dksX2_may_1 3 rfl rfl)
theorem dX2_may_26 : decode cX2_may 26 = .ok (.putfield 57, 3) := dk_181 0 57 (dk_at dksX2_may_1 4 rfl rfl)
theorem dX2_may_29 : decode cX2_may 29 = .ok (.aload_n 0, 1) := dk_42 (dk_at dksX2_may_1 7 rfl rfl)
theorem dX2_may_30 : decode cX2_may 30 = .ok (.getfield 57, 3) := dk_180 0 57 (dk_at dksX2_may_1 8 rfl rfl)
theorem dX2_may_33 : decode cX2_may 33 = .ok (.ifCond .ne 7, 3) := dk_154 0 7 (dk_at dksX2_may_1 11 rfl rfl)
theorem dX2_may_36 : decode cX2_may 36 = .ok (.iconst 1, 1) := dk_4 (dk_at dksX2_may_1 14 rfl rfl)
theorem dX2_may_37 : decode cX2_may 37 = .ok (.goto 4, 3) := dk_167 0 4 (dk_at dksX2_may_1 15 rfl rfl)
theorem dX2_may_40 : decode cX2_may 40 = .ok (.iconst 0, 1) := dk_3 (dk_at dksX2_may_1 18 rfl rfl)
theorem dX2_may_41 : decode cX2_may 41 = .ok (.ireturn, 1) := dk_172 (dk_at dksX2_may_1 19 rfl rfl)
abbrev cX2_lays : ByteArray := prog_10_method_7_code
def yX2_lays : MethodName := ⟨RX2, "lays", "([II[II)V"⟩
def dkwX2_lays_1 : List UInt8 := [132, 4, 1, 167, 255, 234, 177]
abbrev dktX2_lays_1 : List UInt8 := dkwX2_lays_1 ++ []
def dkwX2_lays_0 : List UInt8 := [3, 54, 4, 21, 4, 16, 103, 162, 0, 21, 44, 29, 21, 4, 96, 42, 27, 21, 4, 96, 46, 79]
abbrev dktX2_lays_0 : List UInt8 := dkwX2_lays_0 ++ dktX2_lays_1
theorem dksX2_lays_0 : cX2_lays.data.toList.drop 0 = dktX2_lays_0 := by decide +kernel
theorem dksX2_lays_1 : cX2_lays.data.toList.drop 22 = dktX2_lays_1 := dk_seg dksX2_lays_0 22 rfl rfl
theorem dX2_lays_0 : decode cX2_lays 0 = .ok (.iconst 0, 1) := dk_3 (dk_at dksX2_lays_0 0 rfl rfl)
theorem dX2_lays_1 : decode cX2_lays 1 = .ok (.istore 4, 2) := dk_54 4 (dk_at dksX2_lays_0 1 rfl rfl)
theorem dX2_lays_3 : decode cX2_lays 3 = .ok (.iload 4, 2) := dk_21 4 (dk_at dksX2_lays_0 3 rfl rfl)
theorem dX2_lays_5 : decode cX2_lays 5 = .ok (.bipush 103, 2) := dk_16 103 (dk_at dksX2_lays_0 5 rfl rfl)
theorem dX2_lays_7 : decode cX2_lays 7 = .ok (.if_icmp .ge 21, 3) := dk_162 0 21 (dk_at dksX2_lays_0 7 rfl rfl)
theorem dX2_lays_10 : decode cX2_lays 10 = .ok (.aload_n 2, 1) := dk_44 (dk_at dksX2_lays_0 10 rfl rfl)
theorem dX2_lays_11 : decode cX2_lays 11 = .ok (.iload_n 3, 1) := dk_29 (dk_at dksX2_lays_0 11 rfl rfl)
theorem dX2_lays_12 : decode cX2_lays 12 = .ok (.iload 4, 2) := dk_21 4 (dk_at dksX2_lays_0 12 rfl rfl)
theorem dX2_lays_14 : decode cX2_lays 14 = .ok (.iadd, 1) := dk_96 (dk_at dksX2_lays_0 14 rfl rfl)
theorem dX2_lays_15 : decode cX2_lays 15 = .ok (.aload_n 0, 1) := dk_42 (dk_at dksX2_lays_0 15 rfl rfl)
theorem dX2_lays_16 : decode cX2_lays 16 = .ok (.iload_n 1, 1) := dk_27 (dk_at dksX2_lays_0 16 rfl rfl)
theorem dX2_lays_17 : decode cX2_lays 17 = .ok (.iload 4, 2) := dk_21 4 (dk_at dksX2_lays_0 17 rfl rfl)
theorem dX2_lays_19 : decode cX2_lays 19 = .ok (.iadd, 1) := dk_96 (dk_at dksX2_lays_0 19 rfl rfl)
theorem dX2_lays_20 : decode cX2_lays 20 = .ok (.iaload, 1) := dk_46 (dk_at dksX2_lays_0 20 rfl rfl)
theorem dX2_lays_21 : decode cX2_lays 21 = .ok (.iastore, 1) := dk_79 (dk_at dksX2_lays_0 21 rfl rfl)
theorem dX2_lays_22 : decode cX2_lays 22 = .ok (.iinc 4 1, 3) := dk_132 4 1 (dk_at dksX2_lays_1 0 rfl rfl)
theorem dX2_lays_25 : decode cX2_lays 25 = .ok (.goto (-22), 3) := dk_167 255 234 (dk_at dksX2_lays_1 3 rfl rfl)
theorem dX2_lays_28 : decode cX2_lays 28 = .ok (.return_, 1) := dk_177 (dk_at dksX2_lays_1 6 rfl rfl)
abbrev cX2_isLetter : ByteArray := prog_10_method_13_code
def yX2_isLetter : MethodName := ⟨RX2, "isLetter", "(I)Z"⟩
def dkwX2_isLetter_1 : List UInt8 := [4, 167, 0, 4, 3, 172]
abbrev dktX2_isLetter_1 : List UInt8 := dkwX2_isLetter_1 ++ []
def dkwX2_isLetter_0 : List UInt8 := [27, 42, 180, 0, 74, 162, 0, 23, 42, 180, 0, 26, 27, 51, 16, 97, 16, 122, 184, 0, 77, 153, 0, 7]
abbrev dktX2_isLetter_0 : List UInt8 := dkwX2_isLetter_0 ++ dktX2_isLetter_1
theorem dksX2_isLetter_0 : cX2_isLetter.data.toList.drop 0 = dktX2_isLetter_0 := by decide +kernel
theorem dksX2_isLetter_1 : cX2_isLetter.data.toList.drop 24 = dktX2_isLetter_1 := dk_seg dksX2_isLetter_0 24 rfl rfl
theorem dX2_isLetter_0 : decode cX2_isLetter 0 = .ok (.iload_n 1, 1) := dk_27 (dk_at dksX2_isLetter_0 0 rfl rfl)
theorem dX2_isLetter_1 : decode cX2_isLetter 1 = .ok (.aload_n 0, 1) := dk_42 (dk_at dksX2_isLetter_0 1 rfl rfl)
theorem dX2_isLetter_2 : decode cX2_isLetter 2 = .ok (.getfield 74, 3) := dk_180 0 74 (dk_at dksX2_isLetter_0 2 rfl rfl)
theorem dX2_isLetter_5 : decode cX2_isLetter 5 = .ok (.if_icmp .ge 23, 3) := dk_162 0 23 (dk_at dksX2_isLetter_0 5 rfl rfl)
theorem dX2_isLetter_8 : decode cX2_isLetter 8 = .ok (.aload_n 0, 1) := dk_42 (dk_at dksX2_isLetter_0 8 rfl rfl)
theorem dX2_isLetter_9 : decode cX2_isLetter 9 = .ok (.getfield 26, 3) := dk_180 0 26 (dk_at dksX2_isLetter_0 9 rfl rfl)
theorem dX2_isLetter_12 : decode cX2_isLetter 12 = .ok (.iload_n 1, 1) := dk_27 (dk_at dksX2_isLetter_0 12 rfl rfl)
theorem dX2_isLetter_13 : decode cX2_isLetter 13 = .ok (.baload, 1) := dk_51 (dk_at dksX2_isLetter_0 13 rfl rfl)
theorem dX2_isLetter_14 : decode cX2_isLetter 14 = .ok (.bipush 97, 2) := dk_16 97 (dk_at dksX2_isLetter_0 14 rfl rfl)
theorem dX2_isLetter_16 : decode cX2_isLetter 16 = .ok (.bipush 122, 2) := dk_16 122 (dk_at dksX2_isLetter_0 16 rfl rfl)
theorem dX2_isLetter_18 : decode cX2_isLetter 18 = .ok (.invokestatic 77, 3) := dk_184 0 77 (dk_at dksX2_isLetter_0 18 rfl rfl)
theorem dX2_isLetter_21 : decode cX2_isLetter 21 = .ok (.ifCond .eq 7, 3) := dk_153 0 7 (dk_at dksX2_isLetter_0 21 rfl rfl)
theorem dX2_isLetter_24 : decode cX2_isLetter 24 = .ok (.iconst 1, 1) := dk_4 (dk_at dksX2_isLetter_1 0 rfl rfl)
theorem dX2_isLetter_25 : decode cX2_isLetter 25 = .ok (.goto 4, 3) := dk_167 0 4 (dk_at dksX2_isLetter_1 1 rfl rfl)
theorem dX2_isLetter_28 : decode cX2_isLetter 28 = .ok (.iconst 0, 1) := dk_3 (dk_at dksX2_isLetter_1 4 rfl rfl)
theorem dX2_isLetter_29 : decode cX2_isLetter 29 = .ok (.ireturn, 1) := dk_172 (dk_at dksX2_isLetter_1 5 rfl rfl)
abbrev cX2_isDigit : ByteArray := prog_10_method_14_code
def yX2_isDigit : MethodName := ⟨RX2, "isDigit", "(I)Z"⟩
def dkwX2_isDigit_1 : List UInt8 := [4, 167, 0, 4, 3, 172]
abbrev dktX2_isDigit_1 : List UInt8 := dkwX2_isDigit_1 ++ []
def dkwX2_isDigit_0 : List UInt8 := [27, 42, 180, 0, 74, 162, 0, 23, 42, 180, 0, 26, 27, 51, 16, 48, 16, 57, 184, 0, 77, 153, 0, 7]
abbrev dktX2_isDigit_0 : List UInt8 := dkwX2_isDigit_0 ++ dktX2_isDigit_1
theorem dksX2_isDigit_0 : cX2_isDigit.data.toList.drop 0 = dktX2_isDigit_0 := by decide +kernel
theorem dksX2_isDigit_1 : cX2_isDigit.data.toList.drop 24 = dktX2_isDigit_1 := dk_seg dksX2_isDigit_0 24 rfl rfl
theorem dX2_isDigit_0 : decode cX2_isDigit 0 = .ok (.iload_n 1, 1) := dk_27 (dk_at dksX2_isDigit_0 0 rfl rfl)
theorem dX2_isDigit_1 : decode cX2_isDigit 1 = .ok (.aload_n 0, 1) := dk_42 (dk_at dksX2_isDigit_0 1 rfl rfl)
theorem dX2_isDigit_2 : decode cX2_isDigit 2 = .ok (.getfield 74, 3) := dk_180 0 74 (dk_at dksX2_isDigit_0 2 rfl rfl)
theorem dX2_isDigit_5 : decode cX2_isDigit 5 = .ok (.if_icmp .ge 23, 3) := dk_162 0 23 (dk_at dksX2_isDigit_0 5 rfl rfl)
theorem dX2_isDigit_8 : decode cX2_isDigit 8 = .ok (.aload_n 0, 1) := dk_42 (dk_at dksX2_isDigit_0 8 rfl rfl)
theorem dX2_isDigit_9 : decode cX2_isDigit 9 = .ok (.getfield 26, 3) := dk_180 0 26 (dk_at dksX2_isDigit_0 9 rfl rfl)
theorem dX2_isDigit_12 : decode cX2_isDigit 12 = .ok (.iload_n 1, 1) := dk_27 (dk_at dksX2_isDigit_0 12 rfl rfl)
theorem dX2_isDigit_13 : decode cX2_isDigit 13 = .ok (.baload, 1) := dk_51 (dk_at dksX2_isDigit_0 13 rfl rfl)
theorem dX2_isDigit_14 : decode cX2_isDigit 14 = .ok (.bipush 48, 2) := dk_16 48 (dk_at dksX2_isDigit_0 14 rfl rfl)
theorem dX2_isDigit_16 : decode cX2_isDigit 16 = .ok (.bipush 57, 2) := dk_16 57 (dk_at dksX2_isDigit_0 16 rfl rfl)
theorem dX2_isDigit_18 : decode cX2_isDigit 18 = .ok (.invokestatic 77, 3) := dk_184 0 77 (dk_at dksX2_isDigit_0 18 rfl rfl)
theorem dX2_isDigit_21 : decode cX2_isDigit 21 = .ok (.ifCond .eq 7, 3) := dk_153 0 7 (dk_at dksX2_isDigit_0 21 rfl rfl)
theorem dX2_isDigit_24 : decode cX2_isDigit 24 = .ok (.iconst 1, 1) := dk_4 (dk_at dksX2_isDigit_1 0 rfl rfl)
theorem dX2_isDigit_25 : decode cX2_isDigit 25 = .ok (.goto 4, 3) := dk_167 0 4 (dk_at dksX2_isDigit_1 1 rfl rfl)
theorem dX2_isDigit_28 : decode cX2_isDigit 28 = .ok (.iconst 0, 1) := dk_3 (dk_at dksX2_isDigit_1 4 rfl rfl)
theorem dX2_isDigit_29 : decode cX2_isDigit 29 = .ok (.ireturn, 1) := dk_172 (dk_at dksX2_isDigit_1 5 rfl rfl)
abbrev cX2_next : ByteArray := prog_10_method_15_code
def yX2_next : MethodName := ⟨RX2, "next", "()V"⟩
def dkwX2_next_11 : List UInt8 := [42, 89, 180, 0, 81, 4, 96, 181, 0, 81, 177]
abbrev dktX2_next_11 : List UInt8 := dkwX2_next_11 ++ []
def dkwX2_next_10 : List UInt8 := [3, 181, 0, 87, 177, 42, 180, 0, 26, 42, 180, 0, 81, 51, 16, 59, 160, 0, 8, 42, 7, 181, 0, 87]
abbrev dktX2_next_10 : List UInt8 := dkwX2_next_10 ++ dktX2_next_11
def dkwX2_next_9 : List UInt8 := [181, 0, 81, 167, 255, 198, 42, 42, 180, 0, 81, 42, 180, 0, 84, 100, 6, 163, 0, 7, 6, 167, 0, 4]
abbrev dktX2_next_9 : List UInt8 := dkwX2_next_9 ++ dktX2_next_10
def dkwX2_next_8 : List UInt8 := [42, 180, 0, 26, 42, 180, 0, 81, 51, 96, 16, 48, 100, 181, 0, 97, 42, 89, 180, 0, 81, 4, 96]
abbrev dktX2_next_8 : List UInt8 := dkwX2_next_8 ++ dktX2_next_9
def dkwX2_next_7 : List UInt8 := [153, 0, 53, 42, 180, 0, 81, 42, 180, 0, 84, 100, 6, 162, 0, 27, 42, 16, 10, 42, 180, 0, 97, 104]
abbrev dktX2_next_7 : List UInt8 := dkwX2_next_7 ++ dktX2_next_8
def dkwX2_next_6 : List UInt8 := [42, 180, 0, 81, 182, 0, 94, 153, 0, 92, 42, 3, 181, 0, 97, 42, 42, 180, 0, 81, 182, 0, 94]
abbrev dktX2_next_6 : List UInt8 := dkwX2_next_6 ++ dktX2_next_7
def dkwX2_next_5 : List UInt8 := [42, 180, 0, 81, 42, 180, 0, 84, 100, 16, 6, 163, 0, 7, 5, 167, 0, 4, 3, 181, 0, 87, 177, 42]
abbrev dktX2_next_5 : List UInt8 := dkwX2_next_5 ++ dktX2_next_6
def dkwX2_next_4 : List UInt8 := [42, 180, 0, 81, 182, 0, 90, 153, 0, 16, 42, 89, 180, 0, 81, 4, 96, 181, 0, 81, 167, 255, 235, 42]
abbrev dktX2_next_4 : List UInt8 := dkwX2_next_4 ++ dktX2_next_5
def dkwX2_next_3 : List UInt8 := [181, 0, 87, 42, 180, 0, 87, 4, 160, 0, 4, 177, 42, 42, 180, 0, 81, 182, 0, 90, 153, 0, 51, 42]
abbrev dktX2_next_3 : List UInt8 := dkwX2_next_3 ++ dktX2_next_4
def dkwX2_next_2 : List UInt8 := [180, 0, 81, 181, 0, 84, 42, 42, 180, 0, 81, 42, 180, 0, 74, 160, 0, 7, 4, 167, 0, 4, 3]
abbrev dktX2_next_2 : List UInt8 := dkwX2_next_2 ++ dktX2_next_3
def dkwX2_next_1 : List UInt8 := [180, 0, 81, 51, 16, 32, 160, 0, 16, 42, 89, 180, 0, 81, 4, 96, 181, 0, 81, 167, 255, 221, 42, 42]
abbrev dktX2_next_1 : List UInt8 := dkwX2_next_1 ++ dktX2_next_2
def dkwX2_next_0 : List UInt8 := [42, 180, 0, 71, 158, 0, 4, 177, 42, 180, 0, 81, 42, 180, 0, 74, 162, 0, 30, 42, 180, 0, 26, 42]
abbrev dktX2_next_0 : List UInt8 := dkwX2_next_0 ++ dktX2_next_1
theorem dksX2_next_0 : cX2_next.data.toList.drop 0 = dktX2_next_0 := by decide +kernel
theorem dksX2_next_1 : cX2_next.data.toList.drop 24 = dktX2_next_1 := dk_seg dksX2_next_0 24 rfl rfl
theorem dksX2_next_2 : cX2_next.data.toList.drop 48 = dktX2_next_2 := dk_seg dksX2_next_1 24 rfl rfl
theorem dksX2_next_3 : cX2_next.data.toList.drop 71 = dktX2_next_3 := dk_seg dksX2_next_2 23 rfl rfl
theorem dksX2_next_4 : cX2_next.data.toList.drop 95 = dktX2_next_4 := dk_seg dksX2_next_3 24 rfl rfl
theorem dksX2_next_5 : cX2_next.data.toList.drop 119 = dktX2_next_5 := dk_seg dksX2_next_4 24 rfl rfl
theorem dksX2_next_6 : cX2_next.data.toList.drop 143 = dktX2_next_6 := dk_seg dksX2_next_5 24 rfl rfl
theorem dksX2_next_7 : cX2_next.data.toList.drop 166 = dktX2_next_7 := dk_seg dksX2_next_6 23 rfl rfl
theorem dksX2_next_8 : cX2_next.data.toList.drop 190 = dktX2_next_8 := dk_seg dksX2_next_7 24 rfl rfl
theorem dksX2_next_9 : cX2_next.data.toList.drop 213 = dktX2_next_9 := dk_seg dksX2_next_8 23 rfl rfl
theorem dksX2_next_10 : cX2_next.data.toList.drop 237 = dktX2_next_10 := dk_seg dksX2_next_9 24 rfl rfl
theorem dksX2_next_11 : cX2_next.data.toList.drop 261 = dktX2_next_11 := dk_seg dksX2_next_10 24 rfl rfl
theorem dX2_next_0 : decode cX2_next 0 = .ok (.aload_n 0, 1) := dk_42 (dk_at dksX2_next_0 0 rfl rfl)
theorem dX2_next_1 : decode cX2_next 1 = .ok (.getfield 71, 3) := dk_180 0 71 (dk_at dksX2_next_0 1 rfl rfl)
theorem dX2_next_4 : decode cX2_next 4 = .ok (.ifCond .le 4, 3) := dk_158 0 4 (dk_at dksX2_next_0 4 rfl rfl)
theorem dX2_next_7 : decode cX2_next 7 = .ok (.return_, 1) := dk_177 (dk_at dksX2_next_0 7 rfl rfl)
theorem dX2_next_8 : decode cX2_next 8 = .ok (.aload_n 0, 1) := dk_42 (dk_at dksX2_next_0 8 rfl rfl)
theorem dX2_next_9 : decode cX2_next 9 = .ok (.getfield 81, 3) := dk_180 0 81 (dk_at dksX2_next_0 9 rfl rfl)
theorem dX2_next_12 : decode cX2_next 12 = .ok (.aload_n 0, 1) := dk_42 (dk_at dksX2_next_0 12 rfl rfl)
theorem dX2_next_13 : decode cX2_next 13 = .ok (.getfield 74, 3) := dk_180 0 74 (dk_at dksX2_next_0 13 rfl rfl)
theorem dX2_next_16 : decode cX2_next 16 = .ok (.if_icmp .ge 30, 3) := dk_162 0 30 (dk_at dksX2_next_0 16 rfl rfl)
theorem dX2_next_19 : decode cX2_next 19 = .ok (.aload_n 0, 1) := dk_42 (dk_at dksX2_next_0 19 rfl rfl)
theorem dX2_next_20 : decode cX2_next 20 = .ok (.getfield 26, 3) := dk_180 0 26 (dk_at dksX2_next_0 20 rfl rfl)
theorem dX2_next_23 : decode cX2_next 23 = .ok (.aload_n 0, 1) := dk_42 (dk_at dksX2_next_0 23 rfl rfl)
theorem dX2_next_24 : decode cX2_next 24 = .ok (.getfield 81, 3) := dk_180 0 81 (dk_at dksX2_next_1 0 rfl rfl)
theorem dX2_next_27 : decode cX2_next 27 = .ok (.baload, 1) := dk_51 (dk_at dksX2_next_1 3 rfl rfl)
theorem dX2_next_28 : decode cX2_next 28 = .ok (.bipush 32, 2) := dk_16 32 (dk_at dksX2_next_1 4 rfl rfl)
theorem dX2_next_30 : decode cX2_next 30 = .ok (.if_icmp .ne 16, 3) := dk_160 0 16 (dk_at dksX2_next_1 6 rfl rfl)
theorem dX2_next_33 : decode cX2_next 33 = .ok (.aload_n 0, 1) := dk_42 (dk_at dksX2_next_1 9 rfl rfl)
theorem dX2_next_34 : decode cX2_next 34 = .ok (.dup, 1) := dk_89 (dk_at dksX2_next_1 10 rfl rfl)
theorem dX2_next_35 : decode cX2_next 35 = .ok (.getfield 81, 3) := dk_180 0 81 (dk_at dksX2_next_1 11 rfl rfl)
theorem dX2_next_38 : decode cX2_next 38 = .ok (.iconst 1, 1) := dk_4 (dk_at dksX2_next_1 14 rfl rfl)
theorem dX2_next_39 : decode cX2_next 39 = .ok (.iadd, 1) := dk_96 (dk_at dksX2_next_1 15 rfl rfl)
theorem dX2_next_40 : decode cX2_next 40 = .ok (.putfield 81, 3) := dk_181 0 81 (dk_at dksX2_next_1 16 rfl rfl)
theorem dX2_next_43 : decode cX2_next 43 = .ok (.goto (-35), 3) := dk_167 255 221 (dk_at dksX2_next_1 19 rfl rfl)
theorem dX2_next_46 : decode cX2_next 46 = .ok (.aload_n 0, 1) := dk_42 (dk_at dksX2_next_1 22 rfl rfl)
theorem dX2_next_47 : decode cX2_next 47 = .ok (.aload_n 0, 1) := dk_42 (dk_at dksX2_next_1 23 rfl rfl)
theorem dX2_next_48 : decode cX2_next 48 = .ok (.getfield 81, 3) := dk_180 0 81 (dk_at dksX2_next_2 0 rfl rfl)
theorem dX2_next_51 : decode cX2_next 51 = .ok (.putfield 84, 3) := dk_181 0 84 (dk_at dksX2_next_2 3 rfl rfl)
theorem dX2_next_54 : decode cX2_next 54 = .ok (.aload_n 0, 1) := dk_42 (dk_at dksX2_next_2 6 rfl rfl)
theorem dX2_next_55 : decode cX2_next 55 = .ok (.aload_n 0, 1) := dk_42 (dk_at dksX2_next_2 7 rfl rfl)
theorem dX2_next_56 : decode cX2_next 56 = .ok (.getfield 81, 3) := dk_180 0 81 (dk_at dksX2_next_2 8 rfl rfl)
theorem dX2_next_59 : decode cX2_next 59 = .ok (.aload_n 0, 1) := dk_42 (dk_at dksX2_next_2 11 rfl rfl)
theorem dX2_next_60 : decode cX2_next 60 = .ok (.getfield 74, 3) := dk_180 0 74 (dk_at dksX2_next_2 12 rfl rfl)
theorem dX2_next_63 : decode cX2_next 63 = .ok (.if_icmp .ne 7, 3) := dk_160 0 7 (dk_at dksX2_next_2 15 rfl rfl)
theorem dX2_next_66 : decode cX2_next 66 = .ok (.iconst 1, 1) := dk_4 (dk_at dksX2_next_2 18 rfl rfl)
theorem dX2_next_67 : decode cX2_next 67 = .ok (.goto 4, 3) := dk_167 0 4 (dk_at dksX2_next_2 19 rfl rfl)
theorem dX2_next_70 : decode cX2_next 70 = .ok (.iconst 0, 1) := dk_3 (dk_at dksX2_next_2 22 rfl rfl)
theorem dX2_next_71 : decode cX2_next 71 = .ok (.putfield 87, 3) := dk_181 0 87 (dk_at dksX2_next_3 0 rfl rfl)
theorem dX2_next_74 : decode cX2_next 74 = .ok (.aload_n 0, 1) := dk_42 (dk_at dksX2_next_3 3 rfl rfl)
theorem dX2_next_75 : decode cX2_next 75 = .ok (.getfield 87, 3) := dk_180 0 87 (dk_at dksX2_next_3 4 rfl rfl)
theorem dX2_next_78 : decode cX2_next 78 = .ok (.iconst 1, 1) := dk_4 (dk_at dksX2_next_3 7 rfl rfl)
theorem dX2_next_79 : decode cX2_next 79 = .ok (.if_icmp .ne 4, 3) := dk_160 0 4 (dk_at dksX2_next_3 8 rfl rfl)
theorem dX2_next_82 : decode cX2_next 82 = .ok (.return_, 1) := dk_177 (dk_at dksX2_next_3 11 rfl rfl)
theorem dX2_next_83 : decode cX2_next 83 = .ok (.aload_n 0, 1) := dk_42 (dk_at dksX2_next_3 12 rfl rfl)
theorem dX2_next_84 : decode cX2_next 84 = .ok (.aload_n 0, 1) := dk_42 (dk_at dksX2_next_3 13 rfl rfl)
theorem dX2_next_85 : decode cX2_next 85 = .ok (.getfield 81, 3) := dk_180 0 81 (dk_at dksX2_next_3 14 rfl rfl)
theorem dX2_next_88 : decode cX2_next 88 = .ok (.invokevirtual 90, 3) := dk_182 0 90 (dk_at dksX2_next_3 17 rfl rfl)
theorem dX2_next_91 : decode cX2_next 91 = .ok (.ifCond .eq 51, 3) := dk_153 0 51 (dk_at dksX2_next_3 20 rfl rfl)
theorem dX2_next_94 : decode cX2_next 94 = .ok (.aload_n 0, 1) := dk_42 (dk_at dksX2_next_3 23 rfl rfl)
theorem dX2_next_95 : decode cX2_next 95 = .ok (.aload_n 0, 1) := dk_42 (dk_at dksX2_next_4 0 rfl rfl)
theorem dX2_next_96 : decode cX2_next 96 = .ok (.getfield 81, 3) := dk_180 0 81 (dk_at dksX2_next_4 1 rfl rfl)
theorem dX2_next_99 : decode cX2_next 99 = .ok (.invokevirtual 90, 3) := dk_182 0 90 (dk_at dksX2_next_4 4 rfl rfl)
theorem dX2_next_102 : decode cX2_next 102 = .ok (.ifCond .eq 16, 3) := dk_153 0 16 (dk_at dksX2_next_4 7 rfl rfl)
theorem dX2_next_105 : decode cX2_next 105 = .ok (.aload_n 0, 1) := dk_42 (dk_at dksX2_next_4 10 rfl rfl)
theorem dX2_next_106 : decode cX2_next 106 = .ok (.dup, 1) := dk_89 (dk_at dksX2_next_4 11 rfl rfl)
theorem dX2_next_107 : decode cX2_next 107 = .ok (.getfield 81, 3) := dk_180 0 81 (dk_at dksX2_next_4 12 rfl rfl)
theorem dX2_next_110 : decode cX2_next 110 = .ok (.iconst 1, 1) := dk_4 (dk_at dksX2_next_4 15 rfl rfl)
theorem dX2_next_111 : decode cX2_next 111 = .ok (.iadd, 1) := dk_96 (dk_at dksX2_next_4 16 rfl rfl)
theorem dX2_next_112 : decode cX2_next 112 = .ok (.putfield 81, 3) := dk_181 0 81 (dk_at dksX2_next_4 17 rfl rfl)
theorem dX2_next_115 : decode cX2_next 115 = .ok (.goto (-21), 3) := dk_167 255 235 (dk_at dksX2_next_4 20 rfl rfl)
theorem dX2_next_118 : decode cX2_next 118 = .ok (.aload_n 0, 1) := dk_42 (dk_at dksX2_next_4 23 rfl rfl)
theorem dX2_next_119 : decode cX2_next 119 = .ok (.aload_n 0, 1) := dk_42 (dk_at dksX2_next_5 0 rfl rfl)
theorem dX2_next_120 : decode cX2_next 120 = .ok (.getfield 81, 3) := dk_180 0 81 (dk_at dksX2_next_5 1 rfl rfl)
theorem dX2_next_123 : decode cX2_next 123 = .ok (.aload_n 0, 1) := dk_42 (dk_at dksX2_next_5 4 rfl rfl)
theorem dX2_next_124 : decode cX2_next 124 = .ok (.getfield 84, 3) := dk_180 0 84 (dk_at dksX2_next_5 5 rfl rfl)
theorem dX2_next_127 : decode cX2_next 127 = .ok (.isub, 1) := dk_100 (dk_at dksX2_next_5 8 rfl rfl)
theorem dX2_next_128 : decode cX2_next 128 = .ok (.bipush 6, 2) := dk_16 6 (dk_at dksX2_next_5 9 rfl rfl)
theorem dX2_next_130 : decode cX2_next 130 = .ok (.if_icmp .gt 7, 3) := dk_163 0 7 (dk_at dksX2_next_5 11 rfl rfl)
theorem dX2_next_133 : decode cX2_next 133 = .ok (.iconst 2, 1) := dk_5 (dk_at dksX2_next_5 14 rfl rfl)
theorem dX2_next_134 : decode cX2_next 134 = .ok (.goto 4, 3) := dk_167 0 4 (dk_at dksX2_next_5 15 rfl rfl)
theorem dX2_next_137 : decode cX2_next 137 = .ok (.iconst 0, 1) := dk_3 (dk_at dksX2_next_5 18 rfl rfl)
theorem dX2_next_138 : decode cX2_next 138 = .ok (.putfield 87, 3) := dk_181 0 87 (dk_at dksX2_next_5 19 rfl rfl)
theorem dX2_next_141 : decode cX2_next 141 = .ok (.return_, 1) := dk_177 (dk_at dksX2_next_5 22 rfl rfl)
theorem dX2_next_142 : decode cX2_next 142 = .ok (.aload_n 0, 1) := dk_42 (dk_at dksX2_next_5 23 rfl rfl)
theorem dX2_next_143 : decode cX2_next 143 = .ok (.aload_n 0, 1) := dk_42 (dk_at dksX2_next_6 0 rfl rfl)
theorem dX2_next_144 : decode cX2_next 144 = .ok (.getfield 81, 3) := dk_180 0 81 (dk_at dksX2_next_6 1 rfl rfl)
theorem dX2_next_147 : decode cX2_next 147 = .ok (.invokevirtual 94, 3) := dk_182 0 94 (dk_at dksX2_next_6 4 rfl rfl)
theorem dX2_next_150 : decode cX2_next 150 = .ok (.ifCond .eq 92, 3) := dk_153 0 92 (dk_at dksX2_next_6 7 rfl rfl)
theorem dX2_next_153 : decode cX2_next 153 = .ok (.aload_n 0, 1) := dk_42 (dk_at dksX2_next_6 10 rfl rfl)
theorem dX2_next_154 : decode cX2_next 154 = .ok (.iconst 0, 1) := dk_3 (dk_at dksX2_next_6 11 rfl rfl)
theorem dX2_next_155 : decode cX2_next 155 = .ok (.putfield 97, 3) := dk_181 0 97 (dk_at dksX2_next_6 12 rfl rfl)
theorem dX2_next_158 : decode cX2_next 158 = .ok (.aload_n 0, 1) := dk_42 (dk_at dksX2_next_6 15 rfl rfl)
theorem dX2_next_159 : decode cX2_next 159 = .ok (.aload_n 0, 1) := dk_42 (dk_at dksX2_next_6 16 rfl rfl)
theorem dX2_next_160 : decode cX2_next 160 = .ok (.getfield 81, 3) := dk_180 0 81 (dk_at dksX2_next_6 17 rfl rfl)
theorem dX2_next_163 : decode cX2_next 163 = .ok (.invokevirtual 94, 3) := dk_182 0 94 (dk_at dksX2_next_6 20 rfl rfl)
theorem dX2_next_166 : decode cX2_next 166 = .ok (.ifCond .eq 53, 3) := dk_153 0 53 (dk_at dksX2_next_7 0 rfl rfl)
theorem dX2_next_169 : decode cX2_next 169 = .ok (.aload_n 0, 1) := dk_42 (dk_at dksX2_next_7 3 rfl rfl)
theorem dX2_next_170 : decode cX2_next 170 = .ok (.getfield 81, 3) := dk_180 0 81 (dk_at dksX2_next_7 4 rfl rfl)
theorem dX2_next_173 : decode cX2_next 173 = .ok (.aload_n 0, 1) := dk_42 (dk_at dksX2_next_7 7 rfl rfl)
theorem dX2_next_174 : decode cX2_next 174 = .ok (.getfield 84, 3) := dk_180 0 84 (dk_at dksX2_next_7 8 rfl rfl)
theorem dX2_next_177 : decode cX2_next 177 = .ok (.isub, 1) := dk_100 (dk_at dksX2_next_7 11 rfl rfl)
theorem dX2_next_178 : decode cX2_next 178 = .ok (.iconst 3, 1) := dk_6 (dk_at dksX2_next_7 12 rfl rfl)
theorem dX2_next_179 : decode cX2_next 179 = .ok (.if_icmp .ge 27, 3) := dk_162 0 27 (dk_at dksX2_next_7 13 rfl rfl)
theorem dX2_next_182 : decode cX2_next 182 = .ok (.aload_n 0, 1) := dk_42 (dk_at dksX2_next_7 16 rfl rfl)
theorem dX2_next_183 : decode cX2_next 183 = .ok (.bipush 10, 2) := dk_16 10 (dk_at dksX2_next_7 17 rfl rfl)
theorem dX2_next_185 : decode cX2_next 185 = .ok (.aload_n 0, 1) := dk_42 (dk_at dksX2_next_7 19 rfl rfl)
theorem dX2_next_186 : decode cX2_next 186 = .ok (.getfield 97, 3) := dk_180 0 97 (dk_at dksX2_next_7 20 rfl rfl)
theorem dX2_next_189 : decode cX2_next 189 = .ok (.imul, 1) := dk_104 (dk_at dksX2_next_7 23 rfl rfl)
theorem dX2_next_190 : decode cX2_next 190 = .ok (.aload_n 0, 1) := dk_42 (dk_at dksX2_next_8 0 rfl rfl)
theorem dX2_next_191 : decode cX2_next 191 = .ok (.getfield 26, 3) := dk_180 0 26 (dk_at dksX2_next_8 1 rfl rfl)
theorem dX2_next_194 : decode cX2_next 194 = .ok (.aload_n 0, 1) := dk_42 (dk_at dksX2_next_8 4 rfl rfl)
theorem dX2_next_195 : decode cX2_next 195 = .ok (.getfield 81, 3) := dk_180 0 81 (dk_at dksX2_next_8 5 rfl rfl)
theorem dX2_next_198 : decode cX2_next 198 = .ok (.baload, 1) := dk_51 (dk_at dksX2_next_8 8 rfl rfl)
theorem dX2_next_199 : decode cX2_next 199 = .ok (.iadd, 1) := dk_96 (dk_at dksX2_next_8 9 rfl rfl)
theorem dX2_next_200 : decode cX2_next 200 = .ok (.bipush 48, 2) := dk_16 48 (dk_at dksX2_next_8 10 rfl rfl)
theorem dX2_next_202 : decode cX2_next 202 = .ok (.isub, 1) := dk_100 (dk_at dksX2_next_8 12 rfl rfl)
theorem dX2_next_203 : decode cX2_next 203 = .ok (.putfield 97, 3) := dk_181 0 97 (dk_at dksX2_next_8 13 rfl rfl)
theorem dX2_next_206 : decode cX2_next 206 = .ok (.aload_n 0, 1) := dk_42 (dk_at dksX2_next_8 16 rfl rfl)
theorem dX2_next_207 : decode cX2_next 207 = .ok (.dup, 1) := dk_89 (dk_at dksX2_next_8 17 rfl rfl)
theorem dX2_next_208 : decode cX2_next 208 = .ok (.getfield 81, 3) := dk_180 0 81 (dk_at dksX2_next_8 18 rfl rfl)
theorem dX2_next_211 : decode cX2_next 211 = .ok (.iconst 1, 1) := dk_4 (dk_at dksX2_next_8 21 rfl rfl)
theorem dX2_next_212 : decode cX2_next 212 = .ok (.iadd, 1) := dk_96 (dk_at dksX2_next_8 22 rfl rfl)
theorem dX2_next_213 : decode cX2_next 213 = .ok (.putfield 81, 3) := dk_181 0 81 (dk_at dksX2_next_9 0 rfl rfl)
theorem dX2_next_216 : decode cX2_next 216 = .ok (.goto (-58), 3) := dk_167 255 198 (dk_at dksX2_next_9 3 rfl rfl)
theorem dX2_next_219 : decode cX2_next 219 = .ok (.aload_n 0, 1) := dk_42 (dk_at dksX2_next_9 6 rfl rfl)
theorem dX2_next_220 : decode cX2_next 220 = .ok (.aload_n 0, 1) := dk_42 (dk_at dksX2_next_9 7 rfl rfl)
theorem dX2_next_221 : decode cX2_next 221 = .ok (.getfield 81, 3) := dk_180 0 81 (dk_at dksX2_next_9 8 rfl rfl)
theorem dX2_next_224 : decode cX2_next 224 = .ok (.aload_n 0, 1) := dk_42 (dk_at dksX2_next_9 11 rfl rfl)
theorem dX2_next_225 : decode cX2_next 225 = .ok (.getfield 84, 3) := dk_180 0 84 (dk_at dksX2_next_9 12 rfl rfl)
theorem dX2_next_228 : decode cX2_next 228 = .ok (.isub, 1) := dk_100 (dk_at dksX2_next_9 15 rfl rfl)
theorem dX2_next_229 : decode cX2_next 229 = .ok (.iconst 3, 1) := dk_6 (dk_at dksX2_next_9 16 rfl rfl)
theorem dX2_next_230 : decode cX2_next 230 = .ok (.if_icmp .gt 7, 3) := dk_163 0 7 (dk_at dksX2_next_9 17 rfl rfl)
theorem dX2_next_233 : decode cX2_next 233 = .ok (.iconst 3, 1) := dk_6 (dk_at dksX2_next_9 20 rfl rfl)
theorem dX2_next_234 : decode cX2_next 234 = .ok (.goto 4, 3) := dk_167 0 4 (dk_at dksX2_next_9 21 rfl rfl)
theorem dX2_next_237 : decode cX2_next 237 = .ok (.iconst 0, 1) := dk_3 (dk_at dksX2_next_10 0 rfl rfl)
theorem dX2_next_238 : decode cX2_next 238 = .ok (.putfield 87, 3) := dk_181 0 87 (dk_at dksX2_next_10 1 rfl rfl)
theorem dX2_next_241 : decode cX2_next 241 = .ok (.return_, 1) := dk_177 (dk_at dksX2_next_10 4 rfl rfl)
theorem dX2_next_242 : decode cX2_next 242 = .ok (.aload_n 0, 1) := dk_42 (dk_at dksX2_next_10 5 rfl rfl)
theorem dX2_next_243 : decode cX2_next 243 = .ok (.getfield 26, 3) := dk_180 0 26 (dk_at dksX2_next_10 6 rfl rfl)
theorem dX2_next_246 : decode cX2_next 246 = .ok (.aload_n 0, 1) := dk_42 (dk_at dksX2_next_10 9 rfl rfl)
theorem dX2_next_247 : decode cX2_next 247 = .ok (.getfield 81, 3) := dk_180 0 81 (dk_at dksX2_next_10 10 rfl rfl)
theorem dX2_next_250 : decode cX2_next 250 = .ok (.baload, 1) := dk_51 (dk_at dksX2_next_10 13 rfl rfl)
theorem dX2_next_251 : decode cX2_next 251 = .ok (.bipush 59, 2) := dk_16 59 (dk_at dksX2_next_10 14 rfl rfl)
theorem dX2_next_253 : decode cX2_next 253 = .ok (.if_icmp .ne 8, 3) := dk_160 0 8 (dk_at dksX2_next_10 16 rfl rfl)
theorem dX2_next_256 : decode cX2_next 256 = .ok (.aload_n 0, 1) := dk_42 (dk_at dksX2_next_10 19 rfl rfl)
theorem dX2_next_257 : decode cX2_next 257 = .ok (.iconst 4, 1) := dk_7 (dk_at dksX2_next_10 20 rfl rfl)
theorem dX2_next_258 : decode cX2_next 258 = .ok (.putfield 87, 3) := dk_181 0 87 (dk_at dksX2_next_10 21 rfl rfl)
theorem dX2_next_261 : decode cX2_next 261 = .ok (.aload_n 0, 1) := dk_42 (dk_at dksX2_next_11 0 rfl rfl)
theorem dX2_next_262 : decode cX2_next 262 = .ok (.dup, 1) := dk_89 (dk_at dksX2_next_11 1 rfl rfl)
theorem dX2_next_263 : decode cX2_next 263 = .ok (.getfield 81, 3) := dk_180 0 81 (dk_at dksX2_next_11 2 rfl rfl)
theorem dX2_next_266 : decode cX2_next 266 = .ok (.iconst 1, 1) := dk_4 (dk_at dksX2_next_11 5 rfl rfl)
theorem dX2_next_267 : decode cX2_next 267 = .ok (.iadd, 1) := dk_96 (dk_at dksX2_next_11 6 rfl rfl)
theorem dX2_next_268 : decode cX2_next 268 = .ok (.putfield 81, 3) := dk_181 0 81 (dk_at dksX2_next_11 7 rfl rfl)
theorem dX2_next_271 : decode cX2_next 271 = .ok (.return_, 1) := dk_177 (dk_at dksX2_next_11 10 rfl rfl)
abbrev cX2_is : ByteArray := prog_10_method_17_code
def yX2_is : MethodName := ⟨RX2, "is", "(I)Z"⟩
def dkwX2_is_0 : List UInt8 := [42, 180, 0, 71, 154, 0, 15, 42, 180, 0, 87, 27, 160, 0, 7, 4, 167, 0, 4, 3, 172]
abbrev dktX2_is_0 : List UInt8 := dkwX2_is_0 ++ []
theorem dksX2_is_0 : cX2_is.data.toList.drop 0 = dktX2_is_0 := by decide +kernel
theorem dX2_is_0 : decode cX2_is 0 = .ok (.aload_n 0, 1) := dk_42 (dk_at dksX2_is_0 0 rfl rfl)
theorem dX2_is_1 : decode cX2_is 1 = .ok (.getfield 71, 3) := dk_180 0 71 (dk_at dksX2_is_0 1 rfl rfl)
theorem dX2_is_4 : decode cX2_is 4 = .ok (.ifCond .ne 15, 3) := dk_154 0 15 (dk_at dksX2_is_0 4 rfl rfl)
theorem dX2_is_7 : decode cX2_is 7 = .ok (.aload_n 0, 1) := dk_42 (dk_at dksX2_is_0 7 rfl rfl)
theorem dX2_is_8 : decode cX2_is 8 = .ok (.getfield 87, 3) := dk_180 0 87 (dk_at dksX2_is_0 8 rfl rfl)
theorem dX2_is_11 : decode cX2_is 11 = .ok (.iload_n 1, 1) := dk_27 (dk_at dksX2_is_0 11 rfl rfl)
theorem dX2_is_12 : decode cX2_is 12 = .ok (.if_icmp .ne 7, 3) := dk_160 0 7 (dk_at dksX2_is_0 12 rfl rfl)
theorem dX2_is_15 : decode cX2_is 15 = .ok (.iconst 1, 1) := dk_4 (dk_at dksX2_is_0 15 rfl rfl)
theorem dX2_is_16 : decode cX2_is 16 = .ok (.goto 4, 3) := dk_167 0 4 (dk_at dksX2_is_0 16 rfl rfl)
theorem dX2_is_19 : decode cX2_is 19 = .ok (.iconst 0, 1) := dk_3 (dk_at dksX2_is_0 19 rfl rfl)
theorem dX2_is_20 : decode cX2_is 20 = .ok (.ireturn, 1) := dk_172 (dk_at dksX2_is_0 20 rfl rfl)
abbrev cJ4_coder : ByteArray := prog_32_method_152_code
def yJ4_coder : MethodName := ⟨RJ4, "coder", "()B"⟩
def dkwJ4_coder_0 : List UInt8 := [178, 0, 38, 153, 0, 10, 42, 180, 0, 15, 167, 0, 4, 4, 172]
abbrev dktJ4_coder_0 : List UInt8 := dkwJ4_coder_0 ++ []
theorem dksJ4_coder_0 : cJ4_coder.data.toList.drop 0 = dktJ4_coder_0 := by decide +kernel
theorem dJ4_coder_0 : decode cJ4_coder 0 = .ok (.getstatic 38, 3) := dk_178 0 38 (dk_at dksJ4_coder_0 0 rfl rfl)
theorem dJ4_coder_3 : decode cJ4_coder 3 = .ok (.ifCond .eq 10, 3) := dk_153 0 10 (dk_at dksJ4_coder_0 3 rfl rfl)
theorem dJ4_coder_6 : decode cJ4_coder 6 = .ok (.aload_n 0, 1) := dk_42 (dk_at dksJ4_coder_0 6 rfl rfl)
theorem dJ4_coder_7 : decode cJ4_coder 7 = .ok (.getfield 15, 3) := dk_180 0 15 (dk_at dksJ4_coder_0 7 rfl rfl)
theorem dJ4_coder_10 : decode cJ4_coder 10 = .ok (.goto 4, 3) := dk_167 0 4 (dk_at dksJ4_coder_0 10 rfl rfl)
theorem dJ4_coder_13 : decode cJ4_coder 13 = .ok (.iconst 1, 1) := dk_4 (dk_at dksJ4_coder_0 13 rfl rfl)
theorem dJ4_coder_14 : decode cJ4_coder 14 = .ok (.ireturn, 1) := dk_172 (dk_at dksJ4_coder_0 14 rfl rfl)
abbrev cJ4_length : ByteArray := prog_32_method_54_code
def yJ4_length : MethodName := ⟨RJ4, "length", "()I"⟩
def dkwJ4_length_0 : List UInt8 := [42, 180, 0, 9, 190, 42, 182, 1, 79, 122, 172]
abbrev dktJ4_length_0 : List UInt8 := dkwJ4_length_0 ++ []
theorem dksJ4_length_0 : cJ4_length.data.toList.drop 0 = dktJ4_length_0 := by decide +kernel
theorem dJ4_length_0 : decode cJ4_length 0 = .ok (.aload_n 0, 1) := dk_42 (dk_at dksJ4_length_0 0 rfl rfl)
theorem dJ4_length_1 : decode cJ4_length 1 = .ok (.getfield 9, 3) := dk_180 0 9 (dk_at dksJ4_length_0 1 rfl rfl)
theorem dJ4_length_4 : decode cJ4_length 4 = .ok (.arraylength, 1) := dk_190 (dk_at dksJ4_length_0 4 rfl rfl)
theorem dJ4_length_5 : decode cJ4_length 5 = .ok (.aload_n 0, 1) := dk_42 (dk_at dksJ4_length_0 5 rfl rfl)
theorem dJ4_length_6 : decode cJ4_length 6 = .ok (.invokevirtual 335, 3) := dk_182 1 79 (dk_at dksJ4_length_0 6 rfl rfl)
theorem dJ4_length_9 : decode cJ4_length 9 = .ok (.ishr, 1) := dk_122 (dk_at dksJ4_length_0 9 rfl rfl)
theorem dJ4_length_10 : decode cJ4_length 10 = .ok (.ireturn, 1) := dk_172 (dk_at dksJ4_length_0 10 rfl rfl)
abbrev cJ4_isLatin1 : ByteArray := prog_32_method_154_code
def yJ4_isLatin1 : MethodName := ⟨RJ4, "isLatin1", "()Z"⟩
def dkwJ4_isLatin1_0 : List UInt8 := [178, 0, 38, 153, 0, 14, 42, 180, 0, 15, 154, 0, 7, 4, 167, 0, 4, 3, 172]
abbrev dktJ4_isLatin1_0 : List UInt8 := dkwJ4_isLatin1_0 ++ []
theorem dksJ4_isLatin1_0 : cJ4_isLatin1.data.toList.drop 0 = dktJ4_isLatin1_0 := by decide +kernel
theorem dJ4_isLatin1_0 : decode cJ4_isLatin1 0 = .ok (.getstatic 38, 3) := dk_178 0 38 (dk_at dksJ4_isLatin1_0 0 rfl rfl)
theorem dJ4_isLatin1_3 : decode cJ4_isLatin1 3 = .ok (.ifCond .eq 14, 3) := dk_153 0 14 (dk_at dksJ4_isLatin1_0 3 rfl rfl)
theorem dJ4_isLatin1_6 : decode cJ4_isLatin1 6 = .ok (.aload_n 0, 1) := dk_42 (dk_at dksJ4_isLatin1_0 6 rfl rfl)
theorem dJ4_isLatin1_7 : decode cJ4_isLatin1 7 = .ok (.getfield 15, 3) := dk_180 0 15 (dk_at dksJ4_isLatin1_0 7 rfl rfl)
theorem dJ4_isLatin1_10 : decode cJ4_isLatin1 10 = .ok (.ifCond .ne 7, 3) := dk_154 0 7 (dk_at dksJ4_isLatin1_0 10 rfl rfl)
theorem dJ4_isLatin1_13 : decode cJ4_isLatin1 13 = .ok (.iconst 1, 1) := dk_4 (dk_at dksJ4_isLatin1_0 13 rfl rfl)
theorem dJ4_isLatin1_14 : decode cJ4_isLatin1 14 = .ok (.goto 4, 3) := dk_167 0 4 (dk_at dksJ4_isLatin1_0 14 rfl rfl)
theorem dJ4_isLatin1_17 : decode cJ4_isLatin1 17 = .ok (.iconst 0, 1) := dk_3 (dk_at dksJ4_isLatin1_0 17 rfl rfl)
theorem dJ4_isLatin1_18 : decode cJ4_isLatin1 18 = .ok (.ireturn, 1) := dk_172 (dk_at dksJ4_isLatin1_0 18 rfl rfl)
abbrev cJ17_checkIndex : ByteArray := prog_66_method_11_code
def yJ17_checkIndex : MethodName := ⟨RJ17, "checkIndex", "(IILjava/util/function/BiFunction;)I"⟩
def dkwJ17_checkIndex_0 : List UInt8 := [26, 155, 0, 8, 26, 27, 161, 0, 10, 44, 26, 27, 184, 0, 95, 191, 26, 172]
abbrev dktJ17_checkIndex_0 : List UInt8 := dkwJ17_checkIndex_0 ++ []
theorem dksJ17_checkIndex_0 : cJ17_checkIndex.data.toList.drop 0 = dktJ17_checkIndex_0 := by decide +kernel
theorem dJ17_checkIndex_0 : decode cJ17_checkIndex 0 = .ok (.iload_n 0, 1) := dk_26 (dk_at dksJ17_checkIndex_0 0 rfl rfl)
theorem dJ17_checkIndex_1 : decode cJ17_checkIndex 1 = .ok (.ifCond .lt 8, 3) := dk_155 0 8 (dk_at dksJ17_checkIndex_0 1 rfl rfl)
theorem dJ17_checkIndex_4 : decode cJ17_checkIndex 4 = .ok (.iload_n 0, 1) := dk_26 (dk_at dksJ17_checkIndex_0 4 rfl rfl)
theorem dJ17_checkIndex_5 : decode cJ17_checkIndex 5 = .ok (.iload_n 1, 1) := dk_27 (dk_at dksJ17_checkIndex_0 5 rfl rfl)
theorem dJ17_checkIndex_6 : decode cJ17_checkIndex 6 = .ok (.if_icmp .lt 10, 3) := dk_161 0 10 (dk_at dksJ17_checkIndex_0 6 rfl rfl)
theorem dJ17_checkIndex_9 : decode cJ17_checkIndex 9 = .ok (.aload_n 2, 1) := dk_44 (dk_at dksJ17_checkIndex_0 9 rfl rfl)
theorem dJ17_checkIndex_10 : decode cJ17_checkIndex 10 = .ok (.iload_n 0, 1) := dk_26 (dk_at dksJ17_checkIndex_0 10 rfl rfl)
theorem dJ17_checkIndex_11 : decode cJ17_checkIndex 11 = .ok (.iload_n 1, 1) := dk_27 (dk_at dksJ17_checkIndex_0 11 rfl rfl)
theorem dJ17_checkIndex_12 : decode cJ17_checkIndex 12 = .ok (.invokestatic 95, 3) := dk_184 0 95 (dk_at dksJ17_checkIndex_0 12 rfl rfl)
theorem dJ17_checkIndex_15 : decode cJ17_checkIndex 15 = .ok (.athrow, 1) := dk_191 (dk_at dksJ17_checkIndex_0 15 rfl rfl)
theorem dJ17_checkIndex_16 : decode cJ17_checkIndex 16 = .ok (.iload_n 0, 1) := dk_26 (dk_at dksJ17_checkIndex_0 16 rfl rfl)
theorem dJ17_checkIndex_17 : decode cJ17_checkIndex 17 = .ok (.ireturn, 1) := dk_172 (dk_at dksJ17_checkIndex_0 17 rfl rfl)
abbrev cJ4_checkIndex : ByteArray := prog_32_method_155_code
def yJ4_checkIndex : MethodName := ⟨RJ4, "checkIndex", "(II)V"⟩
def dkwJ4_checkIndex_0 : List UInt8 := [26, 27, 178, 4, 29, 184, 4, 35, 87, 177]
abbrev dktJ4_checkIndex_0 : List UInt8 := dkwJ4_checkIndex_0 ++ []
theorem dksJ4_checkIndex_0 : cJ4_checkIndex.data.toList.drop 0 = dktJ4_checkIndex_0 := by decide +kernel
theorem dJ4_checkIndex_0 : decode cJ4_checkIndex 0 = .ok (.iload_n 0, 1) := dk_26 (dk_at dksJ4_checkIndex_0 0 rfl rfl)
theorem dJ4_checkIndex_1 : decode cJ4_checkIndex 1 = .ok (.iload_n 1, 1) := dk_27 (dk_at dksJ4_checkIndex_0 1 rfl rfl)
theorem dJ4_checkIndex_2 : decode cJ4_checkIndex 2 = .ok (.getstatic 1053, 3) := dk_178 4 29 (dk_at dksJ4_checkIndex_0 2 rfl rfl)
theorem dJ4_checkIndex_5 : decode cJ4_checkIndex 5 = .ok (.invokestatic 1059, 3) := dk_184 4 35 (dk_at dksJ4_checkIndex_0 5 rfl rfl)
theorem dJ4_checkIndex_8 : decode cJ4_checkIndex 8 = .ok (.pop, 1) := dk_87 (dk_at dksJ4_checkIndex_0 8 rfl rfl)
theorem dJ4_checkIndex_9 : decode cJ4_checkIndex 9 = .ok (.return_, 1) := dk_177 (dk_at dksJ4_checkIndex_0 9 rfl rfl)
abbrev cJ16_charAt : ByteArray := prog_35_method_2_code
def yJ16_charAt : MethodName := ⟨RJ16, "charAt", "([BI)C"⟩
def dkwJ16_charAt_0 : List UInt8 := [27, 42, 190, 184, 0, 9, 42, 27, 51, 17, 0, 255, 126, 146, 172]
abbrev dktJ16_charAt_0 : List UInt8 := dkwJ16_charAt_0 ++ []
theorem dksJ16_charAt_0 : cJ16_charAt.data.toList.drop 0 = dktJ16_charAt_0 := by decide +kernel
theorem dJ16_charAt_0 : decode cJ16_charAt 0 = .ok (.iload_n 1, 1) := dk_27 (dk_at dksJ16_charAt_0 0 rfl rfl)
theorem dJ16_charAt_1 : decode cJ16_charAt 1 = .ok (.aload_n 0, 1) := dk_42 (dk_at dksJ16_charAt_0 1 rfl rfl)
theorem dJ16_charAt_2 : decode cJ16_charAt 2 = .ok (.arraylength, 1) := dk_190 (dk_at dksJ16_charAt_0 2 rfl rfl)
theorem dJ16_charAt_3 : decode cJ16_charAt 3 = .ok (.invokestatic 9, 3) := dk_184 0 9 (dk_at dksJ16_charAt_0 3 rfl rfl)
theorem dJ16_charAt_6 : decode cJ16_charAt 6 = .ok (.aload_n 0, 1) := dk_42 (dk_at dksJ16_charAt_0 6 rfl rfl)
theorem dJ16_charAt_7 : decode cJ16_charAt 7 = .ok (.iload_n 1, 1) := dk_27 (dk_at dksJ16_charAt_0 7 rfl rfl)
theorem dJ16_charAt_8 : decode cJ16_charAt 8 = .ok (.baload, 1) := dk_51 (dk_at dksJ16_charAt_0 8 rfl rfl)
theorem dJ16_charAt_9 : decode cJ16_charAt 9 = .ok (.sipush 255, 3) := dk_17 0 255 (dk_at dksJ16_charAt_0 9 rfl rfl)
theorem dJ16_charAt_12 : decode cJ16_charAt 12 = .ok (.iand, 1) := dk_126 (dk_at dksJ16_charAt_0 12 rfl rfl)
theorem dJ16_charAt_13 : decode cJ16_charAt 13 = .ok (.i2c, 1) := dk_146 (dk_at dksJ16_charAt_0 13 rfl rfl)
theorem dJ16_charAt_14 : decode cJ16_charAt 14 = .ok (.ireturn, 1) := dk_172 (dk_at dksJ16_charAt_0 14 rfl rfl)
abbrev cJ5_length : ByteArray := prog_36_method_6_code
def yJ5_length : MethodName := ⟨RJ5, "length", "([B)I"⟩
def dkwJ5_length_0 : List UInt8 := [42, 190, 4, 122, 172]
abbrev dktJ5_length_0 : List UInt8 := dkwJ5_length_0 ++ []
theorem dksJ5_length_0 : cJ5_length.data.toList.drop 0 = dktJ5_length_0 := by decide +kernel
theorem dJ5_length_0 : decode cJ5_length 0 = .ok (.aload_n 0, 1) := dk_42 (dk_at dksJ5_length_0 0 rfl rfl)
theorem dJ5_length_1 : decode cJ5_length 1 = .ok (.arraylength, 1) := dk_190 (dk_at dksJ5_length_0 1 rfl rfl)
theorem dJ5_length_2 : decode cJ5_length 2 = .ok (.iconst 1, 1) := dk_4 (dk_at dksJ5_length_0 2 rfl rfl)
theorem dJ5_length_3 : decode cJ5_length 3 = .ok (.ishr, 1) := dk_122 (dk_at dksJ5_length_0 3 rfl rfl)
theorem dJ5_length_4 : decode cJ5_length 4 = .ok (.ireturn, 1) := dk_172 (dk_at dksJ5_length_0 4 rfl rfl)
abbrev cJ5_checkIndex : ByteArray := prog_36_method_91_code
def yJ5_checkIndex : MethodName := ⟨RJ5, "checkIndex", "(I[B)V"⟩
def dkwJ5_checkIndex_0 : List UInt8 := [26, 43, 184, 0, 48, 184, 1, 158, 177]
abbrev dktJ5_checkIndex_0 : List UInt8 := dkwJ5_checkIndex_0 ++ []
theorem dksJ5_checkIndex_0 : cJ5_checkIndex.data.toList.drop 0 = dktJ5_checkIndex_0 := by decide +kernel
theorem dJ5_checkIndex_0 : decode cJ5_checkIndex 0 = .ok (.iload_n 0, 1) := dk_26 (dk_at dksJ5_checkIndex_0 0 rfl rfl)
theorem dJ5_checkIndex_1 : decode cJ5_checkIndex 1 = .ok (.aload_n 1, 1) := dk_43 (dk_at dksJ5_checkIndex_0 1 rfl rfl)
theorem dJ5_checkIndex_2 : decode cJ5_checkIndex 2 = .ok (.invokestatic 48, 3) := dk_184 0 48 (dk_at dksJ5_checkIndex_0 2 rfl rfl)
theorem dJ5_checkIndex_5 : decode cJ5_checkIndex 5 = .ok (.invokestatic 414, 3) := dk_184 1 158 (dk_at dksJ5_checkIndex_0 5 rfl rfl)
theorem dJ5_checkIndex_8 : decode cJ5_checkIndex 8 = .ok (.return_, 1) := dk_177 (dk_at dksJ5_checkIndex_0 8 rfl rfl)
abbrev cJ5_getChar : ByteArray := prog_36_method_5_code
def yJ5_getChar : MethodName := ⟨RJ5, "getChar", "([BI)C"⟩
def dkwJ5_getChar_2 : List UInt8 := [51, 17, 0, 255, 126, 178, 0, 63, 120, 128, 146, 172]
abbrev dktJ5_getChar_2 : List UInt8 := dkwJ5_getChar_2 ++ []
def dkwJ5_getChar_1 : List UInt8 := [183, 0, 56, 191, 27, 4, 120, 60, 42, 27, 132, 1, 1, 51, 17, 0, 255, 126, 178, 0, 59, 120, 42, 27]
abbrev dktJ5_getChar_1 : List UInt8 := dkwJ5_getChar_1 ++ dktJ5_getChar_2
def dkwJ5_getChar_0 : List UInt8 := [178, 0, 44, 154, 0, 25, 27, 155, 0, 11, 27, 42, 184, 0, 48, 161, 0, 13, 187, 0, 52, 89, 18, 54]
abbrev dktJ5_getChar_0 : List UInt8 := dkwJ5_getChar_0 ++ dktJ5_getChar_1
theorem dksJ5_getChar_0 : cJ5_getChar.data.toList.drop 0 = dktJ5_getChar_0 := by decide +kernel
theorem dksJ5_getChar_1 : cJ5_getChar.data.toList.drop 24 = dktJ5_getChar_1 := dk_seg dksJ5_getChar_0 24 rfl rfl
theorem dksJ5_getChar_2 : cJ5_getChar.data.toList.drop 48 = dktJ5_getChar_2 := dk_seg dksJ5_getChar_1 24 rfl rfl
theorem dJ5_getChar_0 : decode cJ5_getChar 0 = .ok (.getstatic 44, 3) := dk_178 0 44 (dk_at dksJ5_getChar_0 0 rfl rfl)
theorem dJ5_getChar_3 : decode cJ5_getChar 3 = .ok (.ifCond .ne 25, 3) := dk_154 0 25 (dk_at dksJ5_getChar_0 3 rfl rfl)
theorem dJ5_getChar_6 : decode cJ5_getChar 6 = .ok (.iload_n 1, 1) := dk_27 (dk_at dksJ5_getChar_0 6 rfl rfl)
theorem dJ5_getChar_7 : decode cJ5_getChar 7 = .ok (.ifCond .lt 11, 3) := dk_155 0 11 (dk_at dksJ5_getChar_0 7 rfl rfl)
theorem dJ5_getChar_10 : decode cJ5_getChar 10 = .ok (.iload_n 1, 1) := dk_27 (dk_at dksJ5_getChar_0 10 rfl rfl)
theorem dJ5_getChar_11 : decode cJ5_getChar 11 = .ok (.aload_n 0, 1) := dk_42 (dk_at dksJ5_getChar_0 11 rfl rfl)
theorem dJ5_getChar_12 : decode cJ5_getChar 12 = .ok (.invokestatic 48, 3) := dk_184 0 48 (dk_at dksJ5_getChar_0 12 rfl rfl)
theorem dJ5_getChar_15 : decode cJ5_getChar 15 = .ok (.if_icmp .lt 13, 3) := dk_161 0 13 (dk_at dksJ5_getChar_0 15 rfl rfl)
theorem dJ5_getChar_18 : decode cJ5_getChar 18 = .ok (.new 52, 3) := dk_187 0 52 (dk_at dksJ5_getChar_0 18 rfl rfl)
theorem dJ5_getChar_21 : decode cJ5_getChar 21 = .ok (.dup, 1) := dk_89 (dk_at dksJ5_getChar_0 21 rfl rfl)
theorem dJ5_getChar_22 : decode cJ5_getChar 22 = .ok (.ldc 54, 2) := dk_18 54 (dk_at dksJ5_getChar_0 22 rfl rfl)
theorem dJ5_getChar_24 : decode cJ5_getChar 24 = .ok (.invokespecial 56, 3) := dk_183 0 56 (dk_at dksJ5_getChar_1 0 rfl rfl)
theorem dJ5_getChar_27 : decode cJ5_getChar 27 = .ok (.athrow, 1) := dk_191 (dk_at dksJ5_getChar_1 3 rfl rfl)
theorem dJ5_getChar_28 : decode cJ5_getChar 28 = .ok (.iload_n 1, 1) := dk_27 (dk_at dksJ5_getChar_1 4 rfl rfl)
theorem dJ5_getChar_29 : decode cJ5_getChar 29 = .ok (.iconst 1, 1) := dk_4 (dk_at dksJ5_getChar_1 5 rfl rfl)
theorem dJ5_getChar_30 : decode cJ5_getChar 30 = .ok (.ishl, 1) := dk_120 (dk_at dksJ5_getChar_1 6 rfl rfl)
theorem dJ5_getChar_31 : decode cJ5_getChar 31 = .ok (.istore_n 1, 1) := dk_60 (dk_at dksJ5_getChar_1 7 rfl rfl)
theorem dJ5_getChar_32 : decode cJ5_getChar 32 = .ok (.aload_n 0, 1) := dk_42 (dk_at dksJ5_getChar_1 8 rfl rfl)
theorem dJ5_getChar_33 : decode cJ5_getChar 33 = .ok (.iload_n 1, 1) := dk_27 (dk_at dksJ5_getChar_1 9 rfl rfl)
theorem dJ5_getChar_34 : decode cJ5_getChar 34 = .ok (.iinc 1 1, 3) := dk_132 1 1 (dk_at dksJ5_getChar_1 10 rfl rfl)
theorem dJ5_getChar_37 : decode cJ5_getChar 37 = .ok (.baload, 1) := dk_51 (dk_at dksJ5_getChar_1 13 rfl rfl)
theorem dJ5_getChar_38 : decode cJ5_getChar 38 = .ok (.sipush 255, 3) := dk_17 0 255 (dk_at dksJ5_getChar_1 14 rfl rfl)
theorem dJ5_getChar_41 : decode cJ5_getChar 41 = .ok (.iand, 1) := dk_126 (dk_at dksJ5_getChar_1 17 rfl rfl)
theorem dJ5_getChar_42 : decode cJ5_getChar 42 = .ok (.getstatic 59, 3) := dk_178 0 59 (dk_at dksJ5_getChar_1 18 rfl rfl)
theorem dJ5_getChar_45 : decode cJ5_getChar 45 = .ok (.ishl, 1) := dk_120 (dk_at dksJ5_getChar_1 21 rfl rfl)
theorem dJ5_getChar_46 : decode cJ5_getChar 46 = .ok (.aload_n 0, 1) := dk_42 (dk_at dksJ5_getChar_1 22 rfl rfl)
theorem dJ5_getChar_47 : decode cJ5_getChar 47 = .ok (.iload_n 1, 1) := dk_27 (dk_at dksJ5_getChar_1 23 rfl rfl)
theorem dJ5_getChar_48 : decode cJ5_getChar 48 = .ok (.baload, 1) := dk_51 (dk_at dksJ5_getChar_2 0 rfl rfl)
theorem dJ5_getChar_49 : decode cJ5_getChar 49 = .ok (.sipush 255, 3) := dk_17 0 255 (dk_at dksJ5_getChar_2 1 rfl rfl)
theorem dJ5_getChar_52 : decode cJ5_getChar 52 = .ok (.iand, 1) := dk_126 (dk_at dksJ5_getChar_2 4 rfl rfl)
theorem dJ5_getChar_53 : decode cJ5_getChar 53 = .ok (.getstatic 63, 3) := dk_178 0 63 (dk_at dksJ5_getChar_2 5 rfl rfl)
theorem dJ5_getChar_56 : decode cJ5_getChar 56 = .ok (.ishl, 1) := dk_120 (dk_at dksJ5_getChar_2 8 rfl rfl)
theorem dJ5_getChar_57 : decode cJ5_getChar 57 = .ok (.ior, 1) := dk_128 (dk_at dksJ5_getChar_2 9 rfl rfl)
theorem dJ5_getChar_58 : decode cJ5_getChar 58 = .ok (.i2c, 1) := dk_146 (dk_at dksJ5_getChar_2 10 rfl rfl)
theorem dJ5_getChar_59 : decode cJ5_getChar 59 = .ok (.ireturn, 1) := dk_172 (dk_at dksJ5_getChar_2 11 rfl rfl)
abbrev cJ5_charAt : ByteArray := prog_36_method_83_code
def yJ5_charAt : MethodName := ⟨RJ5, "charAt", "([BI)C"⟩
def dkwJ5_charAt_0 : List UInt8 := [27, 42, 184, 0, 67, 42, 27, 184, 0, 71, 172]
abbrev dktJ5_charAt_0 : List UInt8 := dkwJ5_charAt_0 ++ []
theorem dksJ5_charAt_0 : cJ5_charAt.data.toList.drop 0 = dktJ5_charAt_0 := by decide +kernel
theorem dJ5_charAt_0 : decode cJ5_charAt 0 = .ok (.iload_n 1, 1) := dk_27 (dk_at dksJ5_charAt_0 0 rfl rfl)
theorem dJ5_charAt_1 : decode cJ5_charAt 1 = .ok (.aload_n 0, 1) := dk_42 (dk_at dksJ5_charAt_0 1 rfl rfl)
theorem dJ5_charAt_2 : decode cJ5_charAt 2 = .ok (.invokestatic 67, 3) := dk_184 0 67 (dk_at dksJ5_charAt_0 2 rfl rfl)
theorem dJ5_charAt_5 : decode cJ5_charAt 5 = .ok (.aload_n 0, 1) := dk_42 (dk_at dksJ5_charAt_0 5 rfl rfl)
theorem dJ5_charAt_6 : decode cJ5_charAt 6 = .ok (.iload_n 1, 1) := dk_27 (dk_at dksJ5_charAt_0 6 rfl rfl)
theorem dJ5_charAt_7 : decode cJ5_charAt 7 = .ok (.invokestatic 71, 3) := dk_184 0 71 (dk_at dksJ5_charAt_0 7 rfl rfl)
theorem dJ5_charAt_10 : decode cJ5_charAt 10 = .ok (.ireturn, 1) := dk_172 (dk_at dksJ5_charAt_0 10 rfl rfl)
abbrev cJ4_charAt : ByteArray := prog_32_method_56_code
def yJ4_charAt : MethodName := ⟨RJ4, "charAt", "(I)C"⟩
def dkwJ4_charAt_1 : List UInt8 := [172]
abbrev dktJ4_charAt_1 : List UInt8 := dkwJ4_charAt_1 ++ []
def dkwJ4_charAt_0 : List UInt8 := [42, 182, 1, 236, 153, 0, 12, 42, 180, 0, 9, 27, 184, 1, 239, 172, 42, 180, 0, 9, 27, 184, 1, 242]
abbrev dktJ4_charAt_0 : List UInt8 := dkwJ4_charAt_0 ++ dktJ4_charAt_1
theorem dksJ4_charAt_0 : cJ4_charAt.data.toList.drop 0 = dktJ4_charAt_0 := by decide +kernel
theorem dksJ4_charAt_1 : cJ4_charAt.data.toList.drop 24 = dktJ4_charAt_1 := dk_seg dksJ4_charAt_0 24 rfl rfl
theorem dJ4_charAt_0 : decode cJ4_charAt 0 = .ok (.aload_n 0, 1) := dk_42 (dk_at dksJ4_charAt_0 0 rfl rfl)
theorem dJ4_charAt_1 : decode cJ4_charAt 1 = .ok (.invokevirtual 492, 3) := dk_182 1 236 (dk_at dksJ4_charAt_0 1 rfl rfl)
theorem dJ4_charAt_4 : decode cJ4_charAt 4 = .ok (.ifCond .eq 12, 3) := dk_153 0 12 (dk_at dksJ4_charAt_0 4 rfl rfl)
theorem dJ4_charAt_7 : decode cJ4_charAt 7 = .ok (.aload_n 0, 1) := dk_42 (dk_at dksJ4_charAt_0 7 rfl rfl)
theorem dJ4_charAt_8 : decode cJ4_charAt 8 = .ok (.getfield 9, 3) := dk_180 0 9 (dk_at dksJ4_charAt_0 8 rfl rfl)
theorem dJ4_charAt_11 : decode cJ4_charAt 11 = .ok (.iload_n 1, 1) := dk_27 (dk_at dksJ4_charAt_0 11 rfl rfl)
theorem dJ4_charAt_12 : decode cJ4_charAt 12 = .ok (.invokestatic 495, 3) := dk_184 1 239 (dk_at dksJ4_charAt_0 12 rfl rfl)
theorem dJ4_charAt_15 : decode cJ4_charAt 15 = .ok (.ireturn, 1) := dk_172 (dk_at dksJ4_charAt_0 15 rfl rfl)
theorem dJ4_charAt_16 : decode cJ4_charAt 16 = .ok (.aload_n 0, 1) := dk_42 (dk_at dksJ4_charAt_0 16 rfl rfl)
theorem dJ4_charAt_17 : decode cJ4_charAt 17 = .ok (.getfield 9, 3) := dk_180 0 9 (dk_at dksJ4_charAt_0 17 rfl rfl)
theorem dJ4_charAt_20 : decode cJ4_charAt 20 = .ok (.iload_n 1, 1) := dk_27 (dk_at dksJ4_charAt_0 20 rfl rfl)
theorem dJ4_charAt_21 : decode cJ4_charAt 21 = .ok (.invokestatic 498, 3) := dk_184 1 242 (dk_at dksJ4_charAt_0 21 rfl rfl)
theorem dJ4_charAt_24 : decode cJ4_charAt 24 = .ok (.ireturn, 1) := dk_172 (dk_at dksJ4_charAt_1 0 rfl rfl)
abbrev cX2_isWord : ByteArray := prog_10_method_18_code
def yX2_isWord : MethodName := ⟨RX2, "isWord", "(Ljava/lang/String;)Z"⟩
def dkwX2_isWord_2 : List UInt8 := [28, 182, 0, 109, 159, 0, 5, 3, 172, 132, 2, 1, 167, 255, 224, 4, 172]
abbrev dktX2_isWord_2 : List UInt8 := dkwX2_isWord_2 ++ []
def dkwX2_isWord_1 : List UInt8 := [3, 172, 3, 61, 28, 43, 182, 0, 103, 162, 0, 30, 42, 180, 0, 26, 42, 180, 0, 84, 28, 96, 51, 43]
abbrev dktX2_isWord_1 : List UInt8 := dkwX2_isWord_1 ++ dktX2_isWord_2
def dkwX2_isWord_0 : List UInt8 := [42, 5, 182, 0, 100, 153, 0, 19, 42, 180, 0, 81, 42, 180, 0, 84, 100, 43, 182, 0, 103, 159, 0, 5]
abbrev dktX2_isWord_0 : List UInt8 := dkwX2_isWord_0 ++ dktX2_isWord_1
theorem dksX2_isWord_0 : cX2_isWord.data.toList.drop 0 = dktX2_isWord_0 := by decide +kernel
theorem dksX2_isWord_1 : cX2_isWord.data.toList.drop 24 = dktX2_isWord_1 := dk_seg dksX2_isWord_0 24 rfl rfl
theorem dksX2_isWord_2 : cX2_isWord.data.toList.drop 48 = dktX2_isWord_2 := dk_seg dksX2_isWord_1 24 rfl rfl
theorem dX2_isWord_0 : decode cX2_isWord 0 = .ok (.aload_n 0, 1) := dk_42 (dk_at dksX2_isWord_0 0 rfl rfl)
theorem dX2_isWord_1 : decode cX2_isWord 1 = .ok (.iconst 2, 1) := dk_5 (dk_at dksX2_isWord_0 1 rfl rfl)
theorem dX2_isWord_2 : decode cX2_isWord 2 = .ok (.invokevirtual 100, 3) := dk_182 0 100 (dk_at dksX2_isWord_0 2 rfl rfl)
theorem dX2_isWord_5 : decode cX2_isWord 5 = .ok (.ifCond .eq 19, 3) := dk_153 0 19 (dk_at dksX2_isWord_0 5 rfl rfl)
theorem dX2_isWord_8 : decode cX2_isWord 8 = .ok (.aload_n 0, 1) := dk_42 (dk_at dksX2_isWord_0 8 rfl rfl)
theorem dX2_isWord_9 : decode cX2_isWord 9 = .ok (.getfield 81, 3) := dk_180 0 81 (dk_at dksX2_isWord_0 9 rfl rfl)
theorem dX2_isWord_12 : decode cX2_isWord 12 = .ok (.aload_n 0, 1) := dk_42 (dk_at dksX2_isWord_0 12 rfl rfl)
theorem dX2_isWord_13 : decode cX2_isWord 13 = .ok (.getfield 84, 3) := dk_180 0 84 (dk_at dksX2_isWord_0 13 rfl rfl)
theorem dX2_isWord_16 : decode cX2_isWord 16 = .ok (.isub, 1) := dk_100 (dk_at dksX2_isWord_0 16 rfl rfl)
theorem dX2_isWord_17 : decode cX2_isWord 17 = .ok (.aload_n 1, 1) := dk_43 (dk_at dksX2_isWord_0 17 rfl rfl)
theorem dX2_isWord_18 : decode cX2_isWord 18 = .ok (.invokevirtual 103, 3) := dk_182 0 103 (dk_at dksX2_isWord_0 18 rfl rfl)
theorem dX2_isWord_21 : decode cX2_isWord 21 = .ok (.if_icmp .eq 5, 3) := dk_159 0 5 (dk_at dksX2_isWord_0 21 rfl rfl)
theorem dX2_isWord_24 : decode cX2_isWord 24 = .ok (.iconst 0, 1) := dk_3 (dk_at dksX2_isWord_1 0 rfl rfl)
theorem dX2_isWord_25 : decode cX2_isWord 25 = .ok (.ireturn, 1) := dk_172 (dk_at dksX2_isWord_1 1 rfl rfl)
theorem dX2_isWord_26 : decode cX2_isWord 26 = .ok (.iconst 0, 1) := dk_3 (dk_at dksX2_isWord_1 2 rfl rfl)
theorem dX2_isWord_27 : decode cX2_isWord 27 = .ok (.istore_n 2, 1) := dk_61 (dk_at dksX2_isWord_1 3 rfl rfl)
theorem dX2_isWord_28 : decode cX2_isWord 28 = .ok (.iload_n 2, 1) := dk_28 (dk_at dksX2_isWord_1 4 rfl rfl)
theorem dX2_isWord_29 : decode cX2_isWord 29 = .ok (.aload_n 1, 1) := dk_43 (dk_at dksX2_isWord_1 5 rfl rfl)
theorem dX2_isWord_30 : decode cX2_isWord 30 = .ok (.invokevirtual 103, 3) := dk_182 0 103 (dk_at dksX2_isWord_1 6 rfl rfl)
theorem dX2_isWord_33 : decode cX2_isWord 33 = .ok (.if_icmp .ge 30, 3) := dk_162 0 30 (dk_at dksX2_isWord_1 9 rfl rfl)
theorem dX2_isWord_36 : decode cX2_isWord 36 = .ok (.aload_n 0, 1) := dk_42 (dk_at dksX2_isWord_1 12 rfl rfl)
theorem dX2_isWord_37 : decode cX2_isWord 37 = .ok (.getfield 26, 3) := dk_180 0 26 (dk_at dksX2_isWord_1 13 rfl rfl)
theorem dX2_isWord_40 : decode cX2_isWord 40 = .ok (.aload_n 0, 1) := dk_42 (dk_at dksX2_isWord_1 16 rfl rfl)
theorem dX2_isWord_41 : decode cX2_isWord 41 = .ok (.getfield 84, 3) := dk_180 0 84 (dk_at dksX2_isWord_1 17 rfl rfl)
theorem dX2_isWord_44 : decode cX2_isWord 44 = .ok (.iload_n 2, 1) := dk_28 (dk_at dksX2_isWord_1 20 rfl rfl)
theorem dX2_isWord_45 : decode cX2_isWord 45 = .ok (.iadd, 1) := dk_96 (dk_at dksX2_isWord_1 21 rfl rfl)
theorem dX2_isWord_46 : decode cX2_isWord 46 = .ok (.baload, 1) := dk_51 (dk_at dksX2_isWord_1 22 rfl rfl)
theorem dX2_isWord_47 : decode cX2_isWord 47 = .ok (.aload_n 1, 1) := dk_43 (dk_at dksX2_isWord_1 23 rfl rfl)
theorem dX2_isWord_48 : decode cX2_isWord 48 = .ok (.iload_n 2, 1) := dk_28 (dk_at dksX2_isWord_2 0 rfl rfl)
theorem dX2_isWord_49 : decode cX2_isWord 49 = .ok (.invokevirtual 109, 3) := dk_182 0 109 (dk_at dksX2_isWord_2 1 rfl rfl)
theorem dX2_isWord_52 : decode cX2_isWord 52 = .ok (.if_icmp .eq 5, 3) := dk_159 0 5 (dk_at dksX2_isWord_2 4 rfl rfl)
theorem dX2_isWord_55 : decode cX2_isWord 55 = .ok (.iconst 0, 1) := dk_3 (dk_at dksX2_isWord_2 7 rfl rfl)
theorem dX2_isWord_56 : decode cX2_isWord 56 = .ok (.ireturn, 1) := dk_172 (dk_at dksX2_isWord_2 8 rfl rfl)
theorem dX2_isWord_57 : decode cX2_isWord 57 = .ok (.iinc 2 1, 3) := dk_132 2 1 (dk_at dksX2_isWord_2 9 rfl rfl)
theorem dX2_isWord_60 : decode cX2_isWord 60 = .ok (.goto (-32), 3) := dk_167 255 224 (dk_at dksX2_isWord_2 12 rfl rfl)
theorem dX2_isWord_63 : decode cX2_isWord 63 = .ok (.iconst 1, 1) := dk_4 (dk_at dksX2_isWord_2 15 rfl rfl)
theorem dX2_isWord_64 : decode cX2_isWord 64 = .ok (.ireturn, 1) := dk_172 (dk_at dksX2_isWord_2 16 rfl rfl)
abbrev cX2_faults : ByteArray := prog_10_method_16_code
def yX2_faults : MethodName := ⟨RX2, "faults", "(I)V"⟩
def dkwX2_faults_0 : List UInt8 := [42, 180, 0, 71, 158, 0, 4, 177, 42, 27, 181, 0, 71, 42, 42, 180, 0, 84, 181, 0, 30, 177]
abbrev dktX2_faults_0 : List UInt8 := dkwX2_faults_0 ++ []
theorem dksX2_faults_0 : cX2_faults.data.toList.drop 0 = dktX2_faults_0 := by decide +kernel
theorem dX2_faults_0 : decode cX2_faults 0 = .ok (.aload_n 0, 1) := dk_42 (dk_at dksX2_faults_0 0 rfl rfl)
theorem dX2_faults_1 : decode cX2_faults 1 = .ok (.getfield 71, 3) := dk_180 0 71 (dk_at dksX2_faults_0 1 rfl rfl)
theorem dX2_faults_4 : decode cX2_faults 4 = .ok (.ifCond .le 4, 3) := dk_158 0 4 (dk_at dksX2_faults_0 4 rfl rfl)
theorem dX2_faults_7 : decode cX2_faults 7 = .ok (.return_, 1) := dk_177 (dk_at dksX2_faults_0 7 rfl rfl)
theorem dX2_faults_8 : decode cX2_faults 8 = .ok (.aload_n 0, 1) := dk_42 (dk_at dksX2_faults_0 8 rfl rfl)
theorem dX2_faults_9 : decode cX2_faults 9 = .ok (.iload_n 1, 1) := dk_27 (dk_at dksX2_faults_0 9 rfl rfl)
theorem dX2_faults_10 : decode cX2_faults 10 = .ok (.putfield 71, 3) := dk_181 0 71 (dk_at dksX2_faults_0 10 rfl rfl)
theorem dX2_faults_13 : decode cX2_faults 13 = .ok (.aload_n 0, 1) := dk_42 (dk_at dksX2_faults_0 13 rfl rfl)
theorem dX2_faults_14 : decode cX2_faults 14 = .ok (.aload_n 0, 1) := dk_42 (dk_at dksX2_faults_0 14 rfl rfl)
theorem dX2_faults_15 : decode cX2_faults 15 = .ok (.getfield 84, 3) := dk_180 0 84 (dk_at dksX2_faults_0 15 rfl rfl)
theorem dX2_faults_18 : decode cX2_faults 18 = .ok (.putfield 30, 3) := dk_181 0 30 (dk_at dksX2_faults_0 18 rfl rfl)
theorem dX2_faults_21 : decode cX2_faults 21 = .ok (.return_, 1) := dk_177 (dk_at dksX2_faults_0 21 rfl rfl)
abbrev cX2_numberHere : ByteArray := prog_10_method_19_code
def yX2_numberHere : MethodName := ⟨RX2, "numberHere", "(II)I"⟩
def dkwX2_numberHere_2 : List UInt8 := [180, 0, 97, 172]
abbrev dktX2_numberHere_2 : List UInt8 := dkwX2_numberHere_2 ++ []
def dkwX2_numberHere_1 : List UInt8 := [184, 0, 77, 154, 0, 8, 42, 5, 182, 0, 113, 42, 180, 0, 71, 158, 0, 7, 27, 167, 0, 7, 42]
abbrev dktX2_numberHere_1 : List UInt8 := dkwX2_numberHere_1 ++ dktX2_numberHere_2
def dkwX2_numberHere_0 : List UInt8 := [42, 6, 182, 0, 100, 154, 0, 11, 42, 4, 182, 0, 113, 167, 0, 20, 42, 180, 0, 97, 27, 28]
abbrev dktX2_numberHere_0 : List UInt8 := dkwX2_numberHere_0 ++ dktX2_numberHere_1
theorem dksX2_numberHere_0 : cX2_numberHere.data.toList.drop 0 = dktX2_numberHere_0 := by decide +kernel
theorem dksX2_numberHere_1 : cX2_numberHere.data.toList.drop 22 = dktX2_numberHere_1 := dk_seg dksX2_numberHere_0 22 rfl rfl
theorem dksX2_numberHere_2 : cX2_numberHere.data.toList.drop 45 = dktX2_numberHere_2 := dk_seg dksX2_numberHere_1 23 rfl rfl
theorem dX2_numberHere_0 : decode cX2_numberHere 0 = .ok (.aload_n 0, 1) := dk_42 (dk_at dksX2_numberHere_0 0 rfl rfl)
theorem dX2_numberHere_1 : decode cX2_numberHere 1 = .ok (.iconst 3, 1) := dk_6 (dk_at dksX2_numberHere_0 1 rfl rfl)
theorem dX2_numberHere_2 : decode cX2_numberHere 2 = .ok (.invokevirtual 100, 3) := dk_182 0 100 (dk_at dksX2_numberHere_0 2 rfl rfl)
theorem dX2_numberHere_5 : decode cX2_numberHere 5 = .ok (.ifCond .ne 11, 3) := dk_154 0 11 (dk_at dksX2_numberHere_0 5 rfl rfl)
theorem dX2_numberHere_8 : decode cX2_numberHere 8 = .ok (.aload_n 0, 1) := dk_42 (dk_at dksX2_numberHere_0 8 rfl rfl)
theorem dX2_numberHere_9 : decode cX2_numberHere 9 = .ok (.iconst 1, 1) := dk_4 (dk_at dksX2_numberHere_0 9 rfl rfl)
theorem dX2_numberHere_10 : decode cX2_numberHere 10 = .ok (.invokevirtual 113, 3) := dk_182 0 113 (dk_at dksX2_numberHere_0 10 rfl rfl)
theorem dX2_numberHere_13 : decode cX2_numberHere 13 = .ok (.goto 20, 3) := dk_167 0 20 (dk_at dksX2_numberHere_0 13 rfl rfl)
theorem dX2_numberHere_16 : decode cX2_numberHere 16 = .ok (.aload_n 0, 1) := dk_42 (dk_at dksX2_numberHere_0 16 rfl rfl)
theorem dX2_numberHere_17 : decode cX2_numberHere 17 = .ok (.getfield 97, 3) := dk_180 0 97 (dk_at dksX2_numberHere_0 17 rfl rfl)
theorem dX2_numberHere_20 : decode cX2_numberHere 20 = .ok (.iload_n 1, 1) := dk_27 (dk_at dksX2_numberHere_0 20 rfl rfl)
theorem dX2_numberHere_21 : decode cX2_numberHere 21 = .ok (.iload_n 2, 1) := dk_28 (dk_at dksX2_numberHere_0 21 rfl rfl)
theorem dX2_numberHere_22 : decode cX2_numberHere 22 = .ok (.invokestatic 77, 3) := dk_184 0 77 (dk_at dksX2_numberHere_1 0 rfl rfl)
theorem dX2_numberHere_25 : decode cX2_numberHere 25 = .ok (.ifCond .ne 8, 3) := dk_154 0 8 (dk_at dksX2_numberHere_1 3 rfl rfl)
theorem dX2_numberHere_28 : decode cX2_numberHere 28 = .ok (.aload_n 0, 1) := dk_42 (dk_at dksX2_numberHere_1 6 rfl rfl)
theorem dX2_numberHere_29 : decode cX2_numberHere 29 = .ok (.iconst 2, 1) := dk_5 (dk_at dksX2_numberHere_1 7 rfl rfl)
theorem dX2_numberHere_30 : decode cX2_numberHere 30 = .ok (.invokevirtual 113, 3) := dk_182 0 113 (dk_at dksX2_numberHere_1 8 rfl rfl)
theorem dX2_numberHere_33 : decode cX2_numberHere 33 = .ok (.aload_n 0, 1) := dk_42 (dk_at dksX2_numberHere_1 11 rfl rfl)
theorem dX2_numberHere_34 : decode cX2_numberHere 34 = .ok (.getfield 71, 3) := dk_180 0 71 (dk_at dksX2_numberHere_1 12 rfl rfl)
theorem dX2_numberHere_37 : decode cX2_numberHere 37 = .ok (.ifCond .le 7, 3) := dk_158 0 7 (dk_at dksX2_numberHere_1 15 rfl rfl)
theorem dX2_numberHere_40 : decode cX2_numberHere 40 = .ok (.iload_n 1, 1) := dk_27 (dk_at dksX2_numberHere_1 18 rfl rfl)
theorem dX2_numberHere_41 : decode cX2_numberHere 41 = .ok (.goto 7, 3) := dk_167 0 7 (dk_at dksX2_numberHere_1 19 rfl rfl)
theorem dX2_numberHere_44 : decode cX2_numberHere 44 = .ok (.aload_n 0, 1) := dk_42 (dk_at dksX2_numberHere_1 22 rfl rfl)
theorem dX2_numberHere_45 : decode cX2_numberHere 45 = .ok (.getfield 97, 3) := dk_180 0 97 (dk_at dksX2_numberHere_2 0 rfl rfl)
theorem dX2_numberHere_48 : decode cX2_numberHere 48 = .ok (.ireturn, 1) := dk_172 (dk_at dksX2_numberHere_2 3 rfl rfl)
abbrev cX2_number : ByteArray := prog_10_method_20_code
def yX2_number : MethodName := ⟨RX2, "number", "(II)I"⟩
def dkwX2_number_0 : List UInt8 := [42, 27, 28, 182, 0, 116, 62, 42, 182, 0, 120, 29, 172]
abbrev dktX2_number_0 : List UInt8 := dkwX2_number_0 ++ []
theorem dksX2_number_0 : cX2_number.data.toList.drop 0 = dktX2_number_0 := by decide +kernel
theorem dX2_number_0 : decode cX2_number 0 = .ok (.aload_n 0, 1) := dk_42 (dk_at dksX2_number_0 0 rfl rfl)
theorem dX2_number_1 : decode cX2_number 1 = .ok (.iload_n 1, 1) := dk_27 (dk_at dksX2_number_0 1 rfl rfl)
theorem dX2_number_2 : decode cX2_number 2 = .ok (.iload_n 2, 1) := dk_28 (dk_at dksX2_number_0 2 rfl rfl)
theorem dX2_number_3 : decode cX2_number 3 = .ok (.invokevirtual 116, 3) := dk_182 0 116 (dk_at dksX2_number_0 3 rfl rfl)
theorem dX2_number_6 : decode cX2_number 6 = .ok (.istore_n 3, 1) := dk_62 (dk_at dksX2_number_0 6 rfl rfl)
theorem dX2_number_7 : decode cX2_number 7 = .ok (.aload_n 0, 1) := dk_42 (dk_at dksX2_number_0 7 rfl rfl)
theorem dX2_number_8 : decode cX2_number 8 = .ok (.invokevirtual 120, 3) := dk_182 0 120 (dk_at dksX2_number_0 8 rfl rfl)
theorem dX2_number_11 : decode cX2_number 11 = .ok (.iload_n 3, 1) := dk_29 (dk_at dksX2_number_0 11 rfl rfl)
theorem dX2_number_12 : decode cX2_number 12 = .ok (.ireturn, 1) := dk_172 (dk_at dksX2_number_0 12 rfl rfl)
abbrev cX2_of : ByteArray := prog_10_method_24_code
def yX2_of : MethodName := ⟨RX2, "of", "(II)I"⟩
def dkwX2_of_0 : List UInt8 := [42, 180, 0, 9, 16, 7, 7, 27, 104, 96, 28, 96, 46, 172]
abbrev dktX2_of_0 : List UInt8 := dkwX2_of_0 ++ []
theorem dksX2_of_0 : cX2_of.data.toList.drop 0 = dktX2_of_0 := by decide +kernel
theorem dX2_of_0 : decode cX2_of 0 = .ok (.aload_n 0, 1) := dk_42 (dk_at dksX2_of_0 0 rfl rfl)
theorem dX2_of_1 : decode cX2_of 1 = .ok (.getfield 9, 3) := dk_180 0 9 (dk_at dksX2_of_0 1 rfl rfl)
theorem dX2_of_4 : decode cX2_of 4 = .ok (.bipush 7, 2) := dk_16 7 (dk_at dksX2_of_0 4 rfl rfl)
theorem dX2_of_6 : decode cX2_of 6 = .ok (.iconst 4, 1) := dk_7 (dk_at dksX2_of_0 6 rfl rfl)
theorem dX2_of_7 : decode cX2_of 7 = .ok (.iload_n 1, 1) := dk_27 (dk_at dksX2_of_0 7 rfl rfl)
theorem dX2_of_8 : decode cX2_of 8 = .ok (.imul, 1) := dk_104 (dk_at dksX2_of_0 8 rfl rfl)
theorem dX2_of_9 : decode cX2_of 9 = .ok (.iadd, 1) := dk_96 (dk_at dksX2_of_0 9 rfl rfl)
theorem dX2_of_10 : decode cX2_of 10 = .ok (.iload_n 2, 1) := dk_28 (dk_at dksX2_of_0 10 rfl rfl)
theorem dX2_of_11 : decode cX2_of 11 = .ok (.iadd, 1) := dk_96 (dk_at dksX2_of_0 11 rfl rfl)
theorem dX2_of_12 : decode cX2_of 12 = .ok (.iaload, 1) := dk_46 (dk_at dksX2_of_0 12 rfl rfl)
theorem dX2_of_13 : decode cX2_of 13 = .ok (.ireturn, 1) := dk_172 (dk_at dksX2_of_0 13 rfl rfl)
abbrev cX2_isFixedAt : ByteArray := prog_10_method_28_code
def yX2_isFixedAt : MethodName := ⟨RX2, "isFixedAt", "(I)Z"⟩
def dkwX2_isFixedAt_1 : List UInt8 := [3, 182, 0, 163, 27, 160, 0, 5, 4, 172, 132, 2, 1, 167, 255, 221, 3, 172]
abbrev dktX2_isFixedAt_1 : List UInt8 := dkwX2_isFixedAt_1 ++ []
def dkwX2_isFixedAt_0 : List UInt8 := [3, 61, 28, 42, 180, 0, 9, 3, 46, 162, 0, 31, 42, 28, 5, 182, 0, 163, 4, 160, 0, 15, 42, 28]
abbrev dktX2_isFixedAt_0 : List UInt8 := dkwX2_isFixedAt_0 ++ dktX2_isFixedAt_1
theorem dksX2_isFixedAt_0 : cX2_isFixedAt.data.toList.drop 0 = dktX2_isFixedAt_0 := by decide +kernel
theorem dksX2_isFixedAt_1 : cX2_isFixedAt.data.toList.drop 24 = dktX2_isFixedAt_1 := dk_seg dksX2_isFixedAt_0 24 rfl rfl
theorem dX2_isFixedAt_0 : decode cX2_isFixedAt 0 = .ok (.iconst 0, 1) := dk_3 (dk_at dksX2_isFixedAt_0 0 rfl rfl)
theorem dX2_isFixedAt_1 : decode cX2_isFixedAt 1 = .ok (.istore_n 2, 1) := dk_61 (dk_at dksX2_isFixedAt_0 1 rfl rfl)
theorem dX2_isFixedAt_2 : decode cX2_isFixedAt 2 = .ok (.iload_n 2, 1) := dk_28 (dk_at dksX2_isFixedAt_0 2 rfl rfl)
theorem dX2_isFixedAt_3 : decode cX2_isFixedAt 3 = .ok (.aload_n 0, 1) := dk_42 (dk_at dksX2_isFixedAt_0 3 rfl rfl)
theorem dX2_isFixedAt_4 : decode cX2_isFixedAt 4 = .ok (.getfield 9, 3) := dk_180 0 9 (dk_at dksX2_isFixedAt_0 4 rfl rfl)
theorem dX2_isFixedAt_7 : decode cX2_isFixedAt 7 = .ok (.iconst 0, 1) := dk_3 (dk_at dksX2_isFixedAt_0 7 rfl rfl)
theorem dX2_isFixedAt_8 : decode cX2_isFixedAt 8 = .ok (.iaload, 1) := dk_46 (dk_at dksX2_isFixedAt_0 8 rfl rfl)
theorem dX2_isFixedAt_9 : decode cX2_isFixedAt 9 = .ok (.if_icmp .ge 31, 3) := dk_162 0 31 (dk_at dksX2_isFixedAt_0 9 rfl rfl)
theorem dX2_isFixedAt_12 : decode cX2_isFixedAt 12 = .ok (.aload_n 0, 1) := dk_42 (dk_at dksX2_isFixedAt_0 12 rfl rfl)
theorem dX2_isFixedAt_13 : decode cX2_isFixedAt 13 = .ok (.iload_n 2, 1) := dk_28 (dk_at dksX2_isFixedAt_0 13 rfl rfl)
theorem dX2_isFixedAt_14 : decode cX2_isFixedAt 14 = .ok (.iconst 2, 1) := dk_5 (dk_at dksX2_isFixedAt_0 14 rfl rfl)
theorem dX2_isFixedAt_15 : decode cX2_isFixedAt 15 = .ok (.invokevirtual 163, 3) := dk_182 0 163 (dk_at dksX2_isFixedAt_0 15 rfl rfl)
theorem dX2_isFixedAt_18 : decode cX2_isFixedAt 18 = .ok (.iconst 1, 1) := dk_4 (dk_at dksX2_isFixedAt_0 18 rfl rfl)
theorem dX2_isFixedAt_19 : decode cX2_isFixedAt 19 = .ok (.if_icmp .ne 15, 3) := dk_160 0 15 (dk_at dksX2_isFixedAt_0 19 rfl rfl)
theorem dX2_isFixedAt_22 : decode cX2_isFixedAt 22 = .ok (.aload_n 0, 1) := dk_42 (dk_at dksX2_isFixedAt_0 22 rfl rfl)
theorem dX2_isFixedAt_23 : decode cX2_isFixedAt 23 = .ok (.iload_n 2, 1) := dk_28 (dk_at dksX2_isFixedAt_0 23 rfl rfl)
theorem dX2_isFixedAt_24 : decode cX2_isFixedAt 24 = .ok (.iconst 0, 1) := dk_3 (dk_at dksX2_isFixedAt_1 0 rfl rfl)
theorem dX2_isFixedAt_25 : decode cX2_isFixedAt 25 = .ok (.invokevirtual 163, 3) := dk_182 0 163 (dk_at dksX2_isFixedAt_1 1 rfl rfl)
theorem dX2_isFixedAt_28 : decode cX2_isFixedAt 28 = .ok (.iload_n 1, 1) := dk_27 (dk_at dksX2_isFixedAt_1 4 rfl rfl)
theorem dX2_isFixedAt_29 : decode cX2_isFixedAt 29 = .ok (.if_icmp .ne 5, 3) := dk_160 0 5 (dk_at dksX2_isFixedAt_1 5 rfl rfl)
theorem dX2_isFixedAt_32 : decode cX2_isFixedAt 32 = .ok (.iconst 1, 1) := dk_4 (dk_at dksX2_isFixedAt_1 8 rfl rfl)
theorem dX2_isFixedAt_33 : decode cX2_isFixedAt 33 = .ok (.ireturn, 1) := dk_172 (dk_at dksX2_isFixedAt_1 9 rfl rfl)
theorem dX2_isFixedAt_34 : decode cX2_isFixedAt 34 = .ok (.iinc 2 1, 3) := dk_132 2 1 (dk_at dksX2_isFixedAt_1 10 rfl rfl)
theorem dX2_isFixedAt_37 : decode cX2_isFixedAt 37 = .ok (.goto (-35), 3) := dk_167 255 221 (dk_at dksX2_isFixedAt_1 13 rfl rfl)
theorem dX2_isFixedAt_40 : decode cX2_isFixedAt 40 = .ok (.iconst 0, 1) := dk_3 (dk_at dksX2_isFixedAt_1 16 rfl rfl)
theorem dX2_isFixedAt_41 : decode cX2_isFixedAt 41 = .ok (.ireturn, 1) := dk_172 (dk_at dksX2_isFixedAt_1 17 rfl rfl)
abbrev cX2_puts : ByteArray := prog_10_method_25_code
def yX2_puts : MethodName := ⟨RX2, "puts", "(III)V"⟩
def dkwX2_puts_0 : List UInt8 := [42, 180, 0, 9, 16, 7, 7, 27, 104, 96, 28, 96, 29, 79, 177]
abbrev dktX2_puts_0 : List UInt8 := dkwX2_puts_0 ++ []
theorem dksX2_puts_0 : cX2_puts.data.toList.drop 0 = dktX2_puts_0 := by decide +kernel
theorem dX2_puts_0 : decode cX2_puts 0 = .ok (.aload_n 0, 1) := dk_42 (dk_at dksX2_puts_0 0 rfl rfl)
theorem dX2_puts_1 : decode cX2_puts 1 = .ok (.getfield 9, 3) := dk_180 0 9 (dk_at dksX2_puts_0 1 rfl rfl)
theorem dX2_puts_4 : decode cX2_puts 4 = .ok (.bipush 7, 2) := dk_16 7 (dk_at dksX2_puts_0 4 rfl rfl)
theorem dX2_puts_6 : decode cX2_puts 6 = .ok (.iconst 4, 1) := dk_7 (dk_at dksX2_puts_0 6 rfl rfl)
theorem dX2_puts_7 : decode cX2_puts 7 = .ok (.iload_n 1, 1) := dk_27 (dk_at dksX2_puts_0 7 rfl rfl)
theorem dX2_puts_8 : decode cX2_puts 8 = .ok (.imul, 1) := dk_104 (dk_at dksX2_puts_0 8 rfl rfl)
theorem dX2_puts_9 : decode cX2_puts 9 = .ok (.iadd, 1) := dk_96 (dk_at dksX2_puts_0 9 rfl rfl)
theorem dX2_puts_10 : decode cX2_puts 10 = .ok (.iload_n 2, 1) := dk_28 (dk_at dksX2_puts_0 10 rfl rfl)
theorem dX2_puts_11 : decode cX2_puts 11 = .ok (.iadd, 1) := dk_96 (dk_at dksX2_puts_0 11 rfl rfl)
theorem dX2_puts_12 : decode cX2_puts 12 = .ok (.iload_n 3, 1) := dk_29 (dk_at dksX2_puts_0 12 rfl rfl)
theorem dX2_puts_13 : decode cX2_puts 13 = .ok (.iastore, 1) := dk_79 (dk_at dksX2_puts_0 13 rfl rfl)
theorem dX2_puts_14 : decode cX2_puts 14 = .ok (.return_, 1) := dk_177 (dk_at dksX2_puts_0 14 rfl rfl)
abbrev cX2_one : ByteArray := prog_10_method_4_code
def yX2_one : MethodName := ⟨RX2, "one", "(Z)I"⟩
def dkwX2_one_0 : List UInt8 := [26, 153, 0, 7, 4, 167, 0, 4, 3, 172]
abbrev dktX2_one_0 : List UInt8 := dkwX2_one_0 ++ []
theorem dksX2_one_0 : cX2_one.data.toList.drop 0 = dktX2_one_0 := by decide +kernel
theorem dX2_one_0 : decode cX2_one 0 = .ok (.iload_n 0, 1) := dk_26 (dk_at dksX2_one_0 0 rfl rfl)
theorem dX2_one_1 : decode cX2_one 1 = .ok (.ifCond .eq 7, 3) := dk_153 0 7 (dk_at dksX2_one_0 1 rfl rfl)
theorem dX2_one_4 : decode cX2_one 4 = .ok (.iconst 1, 1) := dk_4 (dk_at dksX2_one_0 4 rfl rfl)
theorem dX2_one_5 : decode cX2_one 5 = .ok (.goto 4, 3) := dk_167 0 4 (dk_at dksX2_one_0 5 rfl rfl)
theorem dX2_one_8 : decode cX2_one 8 = .ok (.iconst 0, 1) := dk_3 (dk_at dksX2_one_0 8 rfl rfl)
theorem dX2_one_9 : decode cX2_one 9 = .ok (.ireturn, 1) := dk_172 (dk_at dksX2_one_0 9 rfl rfl)
abbrev cX2_addsBody : ByteArray := prog_10_method_29_code
def yX2_addsBody : MethodName := ⟨RX2, "addsBody", "(ZII)V"⟩
def dkwX2_addsBody_2 : List UInt8 := [21, 4, 6, 3, 182, 0, 166, 177]
abbrev dktX2_addsBody_2 : List UInt8 := dkwX2_addsBody_2 ++ []
def dkwX2_addsBody_1 : List UInt8 := [182, 0, 166, 42, 21, 4, 4, 29, 182, 0, 166, 42, 21, 4, 5, 27, 184, 0, 170, 182, 0, 166, 42]
abbrev dktX2_addsBody_1 : List UInt8 := dkwX2_addsBody_1 ++ dktX2_addsBody_2
def dkwX2_addsBody_0 : List UInt8 := [42, 180, 0, 9, 3, 46, 54, 4, 42, 180, 0, 9, 3, 92, 46, 4, 96, 79, 42, 21, 4, 3, 28]
abbrev dktX2_addsBody_0 : List UInt8 := dkwX2_addsBody_0 ++ dktX2_addsBody_1
theorem dksX2_addsBody_0 : cX2_addsBody.data.toList.drop 0 = dktX2_addsBody_0 := by decide +kernel
theorem dksX2_addsBody_1 : cX2_addsBody.data.toList.drop 23 = dktX2_addsBody_1 := dk_seg dksX2_addsBody_0 23 rfl rfl
theorem dksX2_addsBody_2 : cX2_addsBody.data.toList.drop 46 = dktX2_addsBody_2 := dk_seg dksX2_addsBody_1 23 rfl rfl
theorem dX2_addsBody_0 : decode cX2_addsBody 0 = .ok (.aload_n 0, 1) := dk_42 (dk_at dksX2_addsBody_0 0 rfl rfl)
theorem dX2_addsBody_1 : decode cX2_addsBody 1 = .ok (.getfield 9, 3) := dk_180 0 9 (dk_at dksX2_addsBody_0 1 rfl rfl)
theorem dX2_addsBody_4 : decode cX2_addsBody 4 = .ok (.iconst 0, 1) := dk_3 (dk_at dksX2_addsBody_0 4 rfl rfl)
theorem dX2_addsBody_5 : decode cX2_addsBody 5 = .ok (.iaload, 1) := dk_46 (dk_at dksX2_addsBody_0 5 rfl rfl)
theorem dX2_addsBody_6 : decode cX2_addsBody 6 = .ok (.istore 4, 2) := dk_54 4 (dk_at dksX2_addsBody_0 6 rfl rfl)
theorem dX2_addsBody_8 : decode cX2_addsBody 8 = .ok (.aload_n 0, 1) := dk_42 (dk_at dksX2_addsBody_0 8 rfl rfl)
theorem dX2_addsBody_9 : decode cX2_addsBody 9 = .ok (.getfield 9, 3) := dk_180 0 9 (dk_at dksX2_addsBody_0 9 rfl rfl)
theorem dX2_addsBody_12 : decode cX2_addsBody 12 = .ok (.iconst 0, 1) := dk_3 (dk_at dksX2_addsBody_0 12 rfl rfl)
theorem dX2_addsBody_13 : decode cX2_addsBody 13 = .ok (.dup2, 1) := dk_92 (dk_at dksX2_addsBody_0 13 rfl rfl)
theorem dX2_addsBody_14 : decode cX2_addsBody 14 = .ok (.iaload, 1) := dk_46 (dk_at dksX2_addsBody_0 14 rfl rfl)
theorem dX2_addsBody_15 : decode cX2_addsBody 15 = .ok (.iconst 1, 1) := dk_4 (dk_at dksX2_addsBody_0 15 rfl rfl)
theorem dX2_addsBody_16 : decode cX2_addsBody 16 = .ok (.iadd, 1) := dk_96 (dk_at dksX2_addsBody_0 16 rfl rfl)
theorem dX2_addsBody_17 : decode cX2_addsBody 17 = .ok (.iastore, 1) := dk_79 (dk_at dksX2_addsBody_0 17 rfl rfl)
theorem dX2_addsBody_18 : decode cX2_addsBody 18 = .ok (.aload_n 0, 1) := dk_42 (dk_at dksX2_addsBody_0 18 rfl rfl)
theorem dX2_addsBody_19 : decode cX2_addsBody 19 = .ok (.iload 4, 2) := dk_21 4 (dk_at dksX2_addsBody_0 19 rfl rfl)
theorem dX2_addsBody_21 : decode cX2_addsBody 21 = .ok (.iconst 0, 1) := dk_3 (dk_at dksX2_addsBody_0 21 rfl rfl)
theorem dX2_addsBody_22 : decode cX2_addsBody 22 = .ok (.iload_n 2, 1) := dk_28 (dk_at dksX2_addsBody_0 22 rfl rfl)
theorem dX2_addsBody_23 : decode cX2_addsBody 23 = .ok (.invokevirtual 166, 3) := dk_182 0 166 (dk_at dksX2_addsBody_1 0 rfl rfl)
theorem dX2_addsBody_26 : decode cX2_addsBody 26 = .ok (.aload_n 0, 1) := dk_42 (dk_at dksX2_addsBody_1 3 rfl rfl)
theorem dX2_addsBody_27 : decode cX2_addsBody 27 = .ok (.iload 4, 2) := dk_21 4 (dk_at dksX2_addsBody_1 4 rfl rfl)
theorem dX2_addsBody_29 : decode cX2_addsBody 29 = .ok (.iconst 1, 1) := dk_4 (dk_at dksX2_addsBody_1 6 rfl rfl)
theorem dX2_addsBody_30 : decode cX2_addsBody 30 = .ok (.iload_n 3, 1) := dk_29 (dk_at dksX2_addsBody_1 7 rfl rfl)
theorem dX2_addsBody_31 : decode cX2_addsBody 31 = .ok (.invokevirtual 166, 3) := dk_182 0 166 (dk_at dksX2_addsBody_1 8 rfl rfl)
theorem dX2_addsBody_34 : decode cX2_addsBody 34 = .ok (.aload_n 0, 1) := dk_42 (dk_at dksX2_addsBody_1 11 rfl rfl)
theorem dX2_addsBody_35 : decode cX2_addsBody 35 = .ok (.iload 4, 2) := dk_21 4 (dk_at dksX2_addsBody_1 12 rfl rfl)
theorem dX2_addsBody_37 : decode cX2_addsBody 37 = .ok (.iconst 2, 1) := dk_5 (dk_at dksX2_addsBody_1 14 rfl rfl)
theorem dX2_addsBody_38 : decode cX2_addsBody 38 = .ok (.iload_n 1, 1) := dk_27 (dk_at dksX2_addsBody_1 15 rfl rfl)
theorem dX2_addsBody_39 : decode cX2_addsBody 39 = .ok (.invokestatic 170, 3) := dk_184 0 170 (dk_at dksX2_addsBody_1 16 rfl rfl)
theorem dX2_addsBody_42 : decode cX2_addsBody 42 = .ok (.invokevirtual 166, 3) := dk_182 0 166 (dk_at dksX2_addsBody_1 19 rfl rfl)
theorem dX2_addsBody_45 : decode cX2_addsBody 45 = .ok (.aload_n 0, 1) := dk_42 (dk_at dksX2_addsBody_1 22 rfl rfl)
theorem dX2_addsBody_46 : decode cX2_addsBody 46 = .ok (.iload 4, 2) := dk_21 4 (dk_at dksX2_addsBody_2 0 rfl rfl)
theorem dX2_addsBody_48 : decode cX2_addsBody 48 = .ok (.iconst 3, 1) := dk_6 (dk_at dksX2_addsBody_2 2 rfl rfl)
theorem dX2_addsBody_49 : decode cX2_addsBody 49 = .ok (.iconst 0, 1) := dk_3 (dk_at dksX2_addsBody_2 3 rfl rfl)
theorem dX2_addsBody_50 : decode cX2_addsBody 50 = .ok (.invokevirtual 166, 3) := dk_182 0 166 (dk_at dksX2_addsBody_2 4 rfl rfl)
theorem dX2_addsBody_53 : decode cX2_addsBody 53 = .ok (.return_, 1) := dk_177 (dk_at dksX2_addsBody_2 7 rfl rfl)
abbrev cX2_readsBody : ByteArray := prog_10_method_21_code
def yX2_readsBody : MethodName := ⟨RX2, "readsBody", "(Z)V"⟩
def dkwX2_readsBody_4 : List UInt8 := [153, 0, 9, 21, 4, 116, 167, 0, 5, 21, 4, 182, 0, 135, 177]
abbrev dktX2_readsBody_4 : List UInt8 := dkwX2_readsBody_4 ++ []
def dkwX2_readsBody_3 : List UInt8 := [182, 0, 120, 42, 4, 16, 99, 182, 0, 132, 54, 4, 42, 180, 0, 71, 154, 0, 21, 42, 27, 28, 29]
abbrev dktX2_readsBody_3 : List UInt8 := dkwX2_readsBody_3 ++ dktX2_readsBody_4
def dkwX2_readsBody_2 : List UInt8 := [153, 0, 8, 42, 6, 182, 0, 113, 42, 182, 0, 120, 42, 18, 126, 182, 0, 128, 62, 29, 153, 0, 7, 42]
abbrev dktX2_readsBody_2 : List UInt8 := dkwX2_readsBody_2 ++ dktX2_readsBody_3
def dkwX2_readsBody_1 : List UInt8 := [17, 0, 255, 182, 0, 116, 61, 42, 180, 0, 71, 154, 0, 20, 27, 153, 0, 16, 42, 28, 182, 0, 123]
abbrev dktX2_readsBody_1 : List UInt8 := dkwX2_readsBody_1 ++ dktX2_readsBody_2
def dkwX2_readsBody_0 : List UInt8 := [42, 180, 0, 9, 3, 46, 16, 24, 160, 0, 8, 42, 7, 182, 0, 113, 42, 182, 0, 120, 42, 3]
abbrev dktX2_readsBody_0 : List UInt8 := dkwX2_readsBody_0 ++ dktX2_readsBody_1
theorem dksX2_readsBody_0 : cX2_readsBody.data.toList.drop 0 = dktX2_readsBody_0 := by decide +kernel
theorem dksX2_readsBody_1 : cX2_readsBody.data.toList.drop 22 = dktX2_readsBody_1 := dk_seg dksX2_readsBody_0 22 rfl rfl
theorem dksX2_readsBody_2 : cX2_readsBody.data.toList.drop 45 = dktX2_readsBody_2 := dk_seg dksX2_readsBody_1 23 rfl rfl
theorem dksX2_readsBody_3 : cX2_readsBody.data.toList.drop 69 = dktX2_readsBody_3 := dk_seg dksX2_readsBody_2 24 rfl rfl
theorem dksX2_readsBody_4 : cX2_readsBody.data.toList.drop 92 = dktX2_readsBody_4 := dk_seg dksX2_readsBody_3 23 rfl rfl
theorem dX2_readsBody_0 : decode cX2_readsBody 0 = .ok (.aload_n 0, 1) := dk_42 (dk_at dksX2_readsBody_0 0 rfl rfl)
theorem dX2_readsBody_1 : decode cX2_readsBody 1 = .ok (.getfield 9, 3) := dk_180 0 9 (dk_at dksX2_readsBody_0 1 rfl rfl)
theorem dX2_readsBody_4 : decode cX2_readsBody 4 = .ok (.iconst 0, 1) := dk_3 (dk_at dksX2_readsBody_0 4 rfl rfl)
theorem dX2_readsBody_5 : decode cX2_readsBody 5 = .ok (.iaload, 1) := dk_46 (dk_at dksX2_readsBody_0 5 rfl rfl)
theorem dX2_readsBody_6 : decode cX2_readsBody 6 = .ok (.bipush 24, 2) := dk_16 24 (dk_at dksX2_readsBody_0 6 rfl rfl)
theorem dX2_readsBody_8 : decode cX2_readsBody 8 = .ok (.if_icmp .ne 8, 3) := dk_160 0 8 (dk_at dksX2_readsBody_0 8 rfl rfl)
theorem dX2_readsBody_11 : decode cX2_readsBody 11 = .ok (.aload_n 0, 1) := dk_42 (dk_at dksX2_readsBody_0 11 rfl rfl)
theorem dX2_readsBody_12 : decode cX2_readsBody 12 = .ok (.iconst 4, 1) := dk_7 (dk_at dksX2_readsBody_0 12 rfl rfl)
theorem dX2_readsBody_13 : decode cX2_readsBody 13 = .ok (.invokevirtual 113, 3) := dk_182 0 113 (dk_at dksX2_readsBody_0 13 rfl rfl)
theorem dX2_readsBody_16 : decode cX2_readsBody 16 = .ok (.aload_n 0, 1) := dk_42 (dk_at dksX2_readsBody_0 16 rfl rfl)
theorem dX2_readsBody_17 : decode cX2_readsBody 17 = .ok (.invokevirtual 120, 3) := dk_182 0 120 (dk_at dksX2_readsBody_0 17 rfl rfl)
theorem dX2_readsBody_20 : decode cX2_readsBody 20 = .ok (.aload_n 0, 1) := dk_42 (dk_at dksX2_readsBody_0 20 rfl rfl)
theorem dX2_readsBody_21 : decode cX2_readsBody 21 = .ok (.iconst 0, 1) := dk_3 (dk_at dksX2_readsBody_0 21 rfl rfl)
theorem dX2_readsBody_22 : decode cX2_readsBody 22 = .ok (.sipush 255, 3) := dk_17 0 255 (dk_at dksX2_readsBody_1 0 rfl rfl)
theorem dX2_readsBody_25 : decode cX2_readsBody 25 = .ok (.invokevirtual 116, 3) := dk_182 0 116 (dk_at dksX2_readsBody_1 3 rfl rfl)
theorem dX2_readsBody_28 : decode cX2_readsBody 28 = .ok (.istore_n 2, 1) := dk_61 (dk_at dksX2_readsBody_1 6 rfl rfl)
theorem dX2_readsBody_29 : decode cX2_readsBody 29 = .ok (.aload_n 0, 1) := dk_42 (dk_at dksX2_readsBody_1 7 rfl rfl)
theorem dX2_readsBody_30 : decode cX2_readsBody 30 = .ok (.getfield 71, 3) := dk_180 0 71 (dk_at dksX2_readsBody_1 8 rfl rfl)
theorem dX2_readsBody_33 : decode cX2_readsBody 33 = .ok (.ifCond .ne 20, 3) := dk_154 0 20 (dk_at dksX2_readsBody_1 11 rfl rfl)
theorem dX2_readsBody_36 : decode cX2_readsBody 36 = .ok (.iload_n 1, 1) := dk_27 (dk_at dksX2_readsBody_1 14 rfl rfl)
theorem dX2_readsBody_37 : decode cX2_readsBody 37 = .ok (.ifCond .eq 16, 3) := dk_153 0 16 (dk_at dksX2_readsBody_1 15 rfl rfl)
theorem dX2_readsBody_40 : decode cX2_readsBody 40 = .ok (.aload_n 0, 1) := dk_42 (dk_at dksX2_readsBody_1 18 rfl rfl)
theorem dX2_readsBody_41 : decode cX2_readsBody 41 = .ok (.iload_n 2, 1) := dk_28 (dk_at dksX2_readsBody_1 19 rfl rfl)
theorem dX2_readsBody_42 : decode cX2_readsBody 42 = .ok (.invokevirtual 123, 3) := dk_182 0 123 (dk_at dksX2_readsBody_1 20 rfl rfl)
theorem dX2_readsBody_45 : decode cX2_readsBody 45 = .ok (.ifCond .eq 8, 3) := dk_153 0 8 (dk_at dksX2_readsBody_2 0 rfl rfl)
theorem dX2_readsBody_48 : decode cX2_readsBody 48 = .ok (.aload_n 0, 1) := dk_42 (dk_at dksX2_readsBody_2 3 rfl rfl)
theorem dX2_readsBody_49 : decode cX2_readsBody 49 = .ok (.iconst 3, 1) := dk_6 (dk_at dksX2_readsBody_2 4 rfl rfl)
theorem dX2_readsBody_50 : decode cX2_readsBody 50 = .ok (.invokevirtual 113, 3) := dk_182 0 113 (dk_at dksX2_readsBody_2 5 rfl rfl)
theorem dX2_readsBody_53 : decode cX2_readsBody 53 = .ok (.aload_n 0, 1) := dk_42 (dk_at dksX2_readsBody_2 8 rfl rfl)
theorem dX2_readsBody_54 : decode cX2_readsBody 54 = .ok (.invokevirtual 120, 3) := dk_182 0 120 (dk_at dksX2_readsBody_2 9 rfl rfl)
theorem dX2_readsBody_57 : decode cX2_readsBody 57 = .ok (.aload_n 0, 1) := dk_42 (dk_at dksX2_readsBody_2 12 rfl rfl)
theorem dX2_readsBody_58 : decode cX2_readsBody 58 = .ok (.ldc 126, 2) := dk_18 126 (dk_at dksX2_readsBody_2 13 rfl rfl)
theorem dX2_readsBody_60 : decode cX2_readsBody 60 = .ok (.invokevirtual 128, 3) := dk_182 0 128 (dk_at dksX2_readsBody_2 15 rfl rfl)
theorem dX2_readsBody_63 : decode cX2_readsBody 63 = .ok (.istore_n 3, 1) := dk_62 (dk_at dksX2_readsBody_2 18 rfl rfl)
theorem dX2_readsBody_64 : decode cX2_readsBody 64 = .ok (.iload_n 3, 1) := dk_29 (dk_at dksX2_readsBody_2 19 rfl rfl)
theorem dX2_readsBody_65 : decode cX2_readsBody 65 = .ok (.ifCond .eq 7, 3) := dk_153 0 7 (dk_at dksX2_readsBody_2 20 rfl rfl)
theorem dX2_readsBody_68 : decode cX2_readsBody 68 = .ok (.aload_n 0, 1) := dk_42 (dk_at dksX2_readsBody_2 23 rfl rfl)
theorem dX2_readsBody_69 : decode cX2_readsBody 69 = .ok (.invokevirtual 120, 3) := dk_182 0 120 (dk_at dksX2_readsBody_3 0 rfl rfl)
theorem dX2_readsBody_72 : decode cX2_readsBody 72 = .ok (.aload_n 0, 1) := dk_42 (dk_at dksX2_readsBody_3 3 rfl rfl)
theorem dX2_readsBody_73 : decode cX2_readsBody 73 = .ok (.iconst 1, 1) := dk_4 (dk_at dksX2_readsBody_3 4 rfl rfl)
theorem dX2_readsBody_74 : decode cX2_readsBody 74 = .ok (.bipush 99, 2) := dk_16 99 (dk_at dksX2_readsBody_3 5 rfl rfl)
theorem dX2_readsBody_76 : decode cX2_readsBody 76 = .ok (.invokevirtual 132, 3) := dk_182 0 132 (dk_at dksX2_readsBody_3 7 rfl rfl)
theorem dX2_readsBody_79 : decode cX2_readsBody 79 = .ok (.istore 4, 2) := dk_54 4 (dk_at dksX2_readsBody_3 10 rfl rfl)
theorem dX2_readsBody_81 : decode cX2_readsBody 81 = .ok (.aload_n 0, 1) := dk_42 (dk_at dksX2_readsBody_3 12 rfl rfl)
theorem dX2_readsBody_82 : decode cX2_readsBody 82 = .ok (.getfield 71, 3) := dk_180 0 71 (dk_at dksX2_readsBody_3 13 rfl rfl)
theorem dX2_readsBody_85 : decode cX2_readsBody 85 = .ok (.ifCond .ne 21, 3) := dk_154 0 21 (dk_at dksX2_readsBody_3 16 rfl rfl)
theorem dX2_readsBody_88 : decode cX2_readsBody 88 = .ok (.aload_n 0, 1) := dk_42 (dk_at dksX2_readsBody_3 19 rfl rfl)
theorem dX2_readsBody_89 : decode cX2_readsBody 89 = .ok (.iload_n 1, 1) := dk_27 (dk_at dksX2_readsBody_3 20 rfl rfl)
theorem dX2_readsBody_90 : decode cX2_readsBody 90 = .ok (.iload_n 2, 1) := dk_28 (dk_at dksX2_readsBody_3 21 rfl rfl)
theorem dX2_readsBody_91 : decode cX2_readsBody 91 = .ok (.iload_n 3, 1) := dk_29 (dk_at dksX2_readsBody_3 22 rfl rfl)
theorem dX2_readsBody_92 : decode cX2_readsBody 92 = .ok (.ifCond .eq 9, 3) := dk_153 0 9 (dk_at dksX2_readsBody_4 0 rfl rfl)
theorem dX2_readsBody_95 : decode cX2_readsBody 95 = .ok (.iload 4, 2) := dk_21 4 (dk_at dksX2_readsBody_4 3 rfl rfl)
theorem dX2_readsBody_97 : decode cX2_readsBody 97 = .ok (.ineg, 1) := dk_116 (dk_at dksX2_readsBody_4 5 rfl rfl)
theorem dX2_readsBody_98 : decode cX2_readsBody 98 = .ok (.goto 5, 3) := dk_167 0 5 (dk_at dksX2_readsBody_4 6 rfl rfl)
theorem dX2_readsBody_101 : decode cX2_readsBody 101 = .ok (.iload 4, 2) := dk_21 4 (dk_at dksX2_readsBody_4 9 rfl rfl)
theorem dX2_readsBody_103 : decode cX2_readsBody 103 = .ok (.invokevirtual 135, 3) := dk_182 0 135 (dk_at dksX2_readsBody_4 11 rfl rfl)
theorem dX2_readsBody_106 : decode cX2_readsBody 106 = .ok (.return_, 1) := dk_177 (dk_at dksX2_readsBody_4 14 rfl rfl)
abbrev cX2_readsText : ByteArray := prog_10_method_22_code
def yX2_readsText : MethodName := ⟨RX2, "readsText", "()V"⟩
def dkwX2_readsText_5 : List UInt8 := [4, 182, 0, 113, 42, 180, 0, 9, 3, 46, 154, 0, 8, 42, 8, 182, 0, 113, 177]
abbrev dktX2_readsText_5 : List UInt8 := dkwX2_readsText_5 ++ []
def dkwX2_readsText_4 : List UInt8 := [27, 182, 0, 145, 167, 0, 8, 42, 4, 182, 0, 113, 167, 255, 211, 42, 4, 182, 0, 100, 154, 0, 8, 42]
abbrev dktX2_readsText_4 : List UInt8 := dkwX2_readsText_4 ++ dktX2_readsText_5
def dkwX2_readsText_3 : List UInt8 := [182, 0, 120, 42, 18, 141, 182, 0, 128, 60, 27, 154, 0, 12, 42, 18, 143, 182, 0, 128, 153, 0, 11, 42]
abbrev dktX2_readsText_3 : List UInt8 := dkwX2_readsText_3 ++ dktX2_readsText_4
def dkwX2_readsText_2 : List UInt8 := [180, 0, 9, 8, 42, 3, 17, 3, 231, 182, 0, 132, 79, 42, 7, 182, 0, 100, 153, 0, 43, 42]
abbrev dktX2_readsText_2 : List UInt8 := dkwX2_readsText_2 ++ dktX2_readsText_3
def dkwX2_readsText_1 : List UInt8 := [180, 0, 9, 6, 42, 5, 8, 182, 0, 132, 79, 42, 180, 0, 9, 7, 42, 3, 7, 182, 0, 132, 79, 42]
abbrev dktX2_readsText_1 : List UInt8 := dkwX2_readsText_1 ++ dktX2_readsText_2
def dkwX2_readsText_0 : List UInt8 := [42, 182, 0, 120, 42, 18, 139, 182, 0, 128, 154, 0, 8, 42, 4, 182, 0, 113, 42, 182, 0, 120, 42]
abbrev dktX2_readsText_0 : List UInt8 := dkwX2_readsText_0 ++ dktX2_readsText_1
theorem dksX2_readsText_0 : cX2_readsText.data.toList.drop 0 = dktX2_readsText_0 := by decide +kernel
theorem dksX2_readsText_1 : cX2_readsText.data.toList.drop 23 = dktX2_readsText_1 := dk_seg dksX2_readsText_0 23 rfl rfl
theorem dksX2_readsText_2 : cX2_readsText.data.toList.drop 47 = dktX2_readsText_2 := dk_seg dksX2_readsText_1 24 rfl rfl
theorem dksX2_readsText_3 : cX2_readsText.data.toList.drop 69 = dktX2_readsText_3 := dk_seg dksX2_readsText_2 22 rfl rfl
theorem dksX2_readsText_4 : cX2_readsText.data.toList.drop 93 = dktX2_readsText_4 := dk_seg dksX2_readsText_3 24 rfl rfl
theorem dksX2_readsText_5 : cX2_readsText.data.toList.drop 117 = dktX2_readsText_5 := dk_seg dksX2_readsText_4 24 rfl rfl
theorem dX2_readsText_0 : decode cX2_readsText 0 = .ok (.aload_n 0, 1) := dk_42 (dk_at dksX2_readsText_0 0 rfl rfl)
theorem dX2_readsText_1 : decode cX2_readsText 1 = .ok (.invokevirtual 120, 3) := dk_182 0 120 (dk_at dksX2_readsText_0 1 rfl rfl)
theorem dX2_readsText_4 : decode cX2_readsText 4 = .ok (.aload_n 0, 1) := dk_42 (dk_at dksX2_readsText_0 4 rfl rfl)
theorem dX2_readsText_5 : decode cX2_readsText 5 = .ok (.ldc 139, 2) := dk_18 139 (dk_at dksX2_readsText_0 5 rfl rfl)
theorem dX2_readsText_7 : decode cX2_readsText 7 = .ok (.invokevirtual 128, 3) := dk_182 0 128 (dk_at dksX2_readsText_0 7 rfl rfl)
theorem dX2_readsText_10 : decode cX2_readsText 10 = .ok (.ifCond .ne 8, 3) := dk_154 0 8 (dk_at dksX2_readsText_0 10 rfl rfl)
theorem dX2_readsText_13 : decode cX2_readsText 13 = .ok (.aload_n 0, 1) := dk_42 (dk_at dksX2_readsText_0 13 rfl rfl)
theorem dX2_readsText_14 : decode cX2_readsText 14 = .ok (.iconst 1, 1) := dk_4 (dk_at dksX2_readsText_0 14 rfl rfl)
theorem dX2_readsText_15 : decode cX2_readsText 15 = .ok (.invokevirtual 113, 3) := dk_182 0 113 (dk_at dksX2_readsText_0 15 rfl rfl)
theorem dX2_readsText_18 : decode cX2_readsText 18 = .ok (.aload_n 0, 1) := dk_42 (dk_at dksX2_readsText_0 18 rfl rfl)
theorem dX2_readsText_19 : decode cX2_readsText 19 = .ok (.invokevirtual 120, 3) := dk_182 0 120 (dk_at dksX2_readsText_0 19 rfl rfl)
theorem dX2_readsText_22 : decode cX2_readsText 22 = .ok (.aload_n 0, 1) := dk_42 (dk_at dksX2_readsText_0 22 rfl rfl)
theorem dX2_readsText_23 : decode cX2_readsText 23 = .ok (.getfield 9, 3) := dk_180 0 9 (dk_at dksX2_readsText_1 0 rfl rfl)
theorem dX2_readsText_26 : decode cX2_readsText 26 = .ok (.iconst 3, 1) := dk_6 (dk_at dksX2_readsText_1 3 rfl rfl)
theorem dX2_readsText_27 : decode cX2_readsText 27 = .ok (.aload_n 0, 1) := dk_42 (dk_at dksX2_readsText_1 4 rfl rfl)
theorem dX2_readsText_28 : decode cX2_readsText 28 = .ok (.iconst 2, 1) := dk_5 (dk_at dksX2_readsText_1 5 rfl rfl)
theorem dX2_readsText_29 : decode cX2_readsText 29 = .ok (.iconst 5, 1) := dk_8 (dk_at dksX2_readsText_1 6 rfl rfl)
theorem dX2_readsText_30 : decode cX2_readsText 30 = .ok (.invokevirtual 132, 3) := dk_182 0 132 (dk_at dksX2_readsText_1 7 rfl rfl)
theorem dX2_readsText_33 : decode cX2_readsText 33 = .ok (.iastore, 1) := dk_79 (dk_at dksX2_readsText_1 10 rfl rfl)
theorem dX2_readsText_34 : decode cX2_readsText 34 = .ok (.aload_n 0, 1) := dk_42 (dk_at dksX2_readsText_1 11 rfl rfl)
theorem dX2_readsText_35 : decode cX2_readsText 35 = .ok (.getfield 9, 3) := dk_180 0 9 (dk_at dksX2_readsText_1 12 rfl rfl)
theorem dX2_readsText_38 : decode cX2_readsText 38 = .ok (.iconst 4, 1) := dk_7 (dk_at dksX2_readsText_1 15 rfl rfl)
theorem dX2_readsText_39 : decode cX2_readsText 39 = .ok (.aload_n 0, 1) := dk_42 (dk_at dksX2_readsText_1 16 rfl rfl)
theorem dX2_readsText_40 : decode cX2_readsText 40 = .ok (.iconst 0, 1) := dk_3 (dk_at dksX2_readsText_1 17 rfl rfl)
theorem dX2_readsText_41 : decode cX2_readsText 41 = .ok (.iconst 4, 1) := dk_7 (dk_at dksX2_readsText_1 18 rfl rfl)
theorem dX2_readsText_42 : decode cX2_readsText 42 = .ok (.invokevirtual 132, 3) := dk_182 0 132 (dk_at dksX2_readsText_1 19 rfl rfl)
theorem dX2_readsText_45 : decode cX2_readsText 45 = .ok (.iastore, 1) := dk_79 (dk_at dksX2_readsText_1 22 rfl rfl)
theorem dX2_readsText_46 : decode cX2_readsText 46 = .ok (.aload_n 0, 1) := dk_42 (dk_at dksX2_readsText_1 23 rfl rfl)
theorem dX2_readsText_47 : decode cX2_readsText 47 = .ok (.getfield 9, 3) := dk_180 0 9 (dk_at dksX2_readsText_2 0 rfl rfl)
theorem dX2_readsText_50 : decode cX2_readsText 50 = .ok (.iconst 5, 1) := dk_8 (dk_at dksX2_readsText_2 3 rfl rfl)
theorem dX2_readsText_51 : decode cX2_readsText 51 = .ok (.aload_n 0, 1) := dk_42 (dk_at dksX2_readsText_2 4 rfl rfl)
theorem dX2_readsText_52 : decode cX2_readsText 52 = .ok (.iconst 0, 1) := dk_3 (dk_at dksX2_readsText_2 5 rfl rfl)
theorem dX2_readsText_53 : decode cX2_readsText 53 = .ok (.sipush 999, 3) := dk_17 3 231 (dk_at dksX2_readsText_2 6 rfl rfl)
theorem dX2_readsText_56 : decode cX2_readsText 56 = .ok (.invokevirtual 132, 3) := dk_182 0 132 (dk_at dksX2_readsText_2 9 rfl rfl)
theorem dX2_readsText_59 : decode cX2_readsText 59 = .ok (.iastore, 1) := dk_79 (dk_at dksX2_readsText_2 12 rfl rfl)
theorem dX2_readsText_60 : decode cX2_readsText 60 = .ok (.aload_n 0, 1) := dk_42 (dk_at dksX2_readsText_2 13 rfl rfl)
theorem dX2_readsText_61 : decode cX2_readsText 61 = .ok (.iconst 4, 1) := dk_7 (dk_at dksX2_readsText_2 14 rfl rfl)
theorem dX2_readsText_62 : decode cX2_readsText 62 = .ok (.invokevirtual 100, 3) := dk_182 0 100 (dk_at dksX2_readsText_2 15 rfl rfl)
theorem dX2_readsText_65 : decode cX2_readsText 65 = .ok (.ifCond .eq 43, 3) := dk_153 0 43 (dk_at dksX2_readsText_2 18 rfl rfl)
theorem dX2_readsText_68 : decode cX2_readsText 68 = .ok (.aload_n 0, 1) := dk_42 (dk_at dksX2_readsText_2 21 rfl rfl)
theorem dX2_readsText_69 : decode cX2_readsText 69 = .ok (.invokevirtual 120, 3) := dk_182 0 120 (dk_at dksX2_readsText_3 0 rfl rfl)
theorem dX2_readsText_72 : decode cX2_readsText 72 = .ok (.aload_n 0, 1) := dk_42 (dk_at dksX2_readsText_3 3 rfl rfl)
theorem dX2_readsText_73 : decode cX2_readsText 73 = .ok (.ldc 141, 2) := dk_18 141 (dk_at dksX2_readsText_3 4 rfl rfl)
theorem dX2_readsText_75 : decode cX2_readsText 75 = .ok (.invokevirtual 128, 3) := dk_182 0 128 (dk_at dksX2_readsText_3 6 rfl rfl)
theorem dX2_readsText_78 : decode cX2_readsText 78 = .ok (.istore_n 1, 1) := dk_60 (dk_at dksX2_readsText_3 9 rfl rfl)
theorem dX2_readsText_79 : decode cX2_readsText 79 = .ok (.iload_n 1, 1) := dk_27 (dk_at dksX2_readsText_3 10 rfl rfl)
theorem dX2_readsText_80 : decode cX2_readsText 80 = .ok (.ifCond .ne 12, 3) := dk_154 0 12 (dk_at dksX2_readsText_3 11 rfl rfl)
theorem dX2_readsText_83 : decode cX2_readsText 83 = .ok (.aload_n 0, 1) := dk_42 (dk_at dksX2_readsText_3 14 rfl rfl)
theorem dX2_readsText_84 : decode cX2_readsText 84 = .ok (.ldc 143, 2) := dk_18 143 (dk_at dksX2_readsText_3 15 rfl rfl)
theorem dX2_readsText_86 : decode cX2_readsText 86 = .ok (.invokevirtual 128, 3) := dk_182 0 128 (dk_at dksX2_readsText_3 17 rfl rfl)
theorem dX2_readsText_89 : decode cX2_readsText 89 = .ok (.ifCond .eq 11, 3) := dk_153 0 11 (dk_at dksX2_readsText_3 20 rfl rfl)
theorem dX2_readsText_92 : decode cX2_readsText 92 = .ok (.aload_n 0, 1) := dk_42 (dk_at dksX2_readsText_3 23 rfl rfl)
theorem dX2_readsText_93 : decode cX2_readsText 93 = .ok (.iload_n 1, 1) := dk_27 (dk_at dksX2_readsText_4 0 rfl rfl)
theorem dX2_readsText_94 : decode cX2_readsText 94 = .ok (.invokevirtual 145, 3) := dk_182 0 145 (dk_at dksX2_readsText_4 1 rfl rfl)
theorem dX2_readsText_97 : decode cX2_readsText 97 = .ok (.goto 8, 3) := dk_167 0 8 (dk_at dksX2_readsText_4 4 rfl rfl)
theorem dX2_readsText_100 : decode cX2_readsText 100 = .ok (.aload_n 0, 1) := dk_42 (dk_at dksX2_readsText_4 7 rfl rfl)
theorem dX2_readsText_101 : decode cX2_readsText 101 = .ok (.iconst 1, 1) := dk_4 (dk_at dksX2_readsText_4 8 rfl rfl)
theorem dX2_readsText_102 : decode cX2_readsText 102 = .ok (.invokevirtual 113, 3) := dk_182 0 113 (dk_at dksX2_readsText_4 9 rfl rfl)
theorem dX2_readsText_105 : decode cX2_readsText 105 = .ok (.goto (-45), 3) := dk_167 255 211 (dk_at dksX2_readsText_4 12 rfl rfl)
theorem dX2_readsText_108 : decode cX2_readsText 108 = .ok (.aload_n 0, 1) := dk_42 (dk_at dksX2_readsText_4 15 rfl rfl)
theorem dX2_readsText_109 : decode cX2_readsText 109 = .ok (.iconst 1, 1) := dk_4 (dk_at dksX2_readsText_4 16 rfl rfl)
theorem dX2_readsText_110 : decode cX2_readsText 110 = .ok (.invokevirtual 100, 3) := dk_182 0 100 (dk_at dksX2_readsText_4 17 rfl rfl)
theorem dX2_readsText_113 : decode cX2_readsText 113 = .ok (.ifCond .ne 8, 3) := dk_154 0 8 (dk_at dksX2_readsText_4 20 rfl rfl)
theorem dX2_readsText_116 : decode cX2_readsText 116 = .ok (.aload_n 0, 1) := dk_42 (dk_at dksX2_readsText_4 23 rfl rfl)
theorem dX2_readsText_117 : decode cX2_readsText 117 = .ok (.iconst 1, 1) := dk_4 (dk_at dksX2_readsText_5 0 rfl rfl)
theorem dX2_readsText_118 : decode cX2_readsText 118 = .ok (.invokevirtual 113, 3) := dk_182 0 113 (dk_at dksX2_readsText_5 1 rfl rfl)
theorem dX2_readsText_121 : decode cX2_readsText 121 = .ok (.aload_n 0, 1) := dk_42 (dk_at dksX2_readsText_5 4 rfl rfl)
theorem dX2_readsText_122 : decode cX2_readsText 122 = .ok (.getfield 9, 3) := dk_180 0 9 (dk_at dksX2_readsText_5 5 rfl rfl)
theorem dX2_readsText_125 : decode cX2_readsText 125 = .ok (.iconst 0, 1) := dk_3 (dk_at dksX2_readsText_5 8 rfl rfl)
theorem dX2_readsText_126 : decode cX2_readsText 126 = .ok (.iaload, 1) := dk_46 (dk_at dksX2_readsText_5 9 rfl rfl)
theorem dX2_readsText_127 : decode cX2_readsText 127 = .ok (.ifCond .ne 8, 3) := dk_154 0 8 (dk_at dksX2_readsText_5 10 rfl rfl)
theorem dX2_readsText_130 : decode cX2_readsText 130 = .ok (.aload_n 0, 1) := dk_42 (dk_at dksX2_readsText_5 13 rfl rfl)
theorem dX2_readsText_131 : decode cX2_readsText 131 = .ok (.iconst 5, 1) := dk_8 (dk_at dksX2_readsText_5 14 rfl rfl)
theorem dX2_readsText_132 : decode cX2_readsText 132 = .ok (.invokevirtual 113, 3) := dk_182 0 113 (dk_at dksX2_readsText_5 15 rfl rfl)
theorem dX2_readsText_135 : decode cX2_readsText 135 = .ok (.return_, 1) := dk_177 (dk_at dksX2_readsText_5 18 rfl rfl)
abbrev cX2_load : ByteArray := prog_10_method_23_code
def yX2_load : MethodName := ⟨RX2, "load", "(I)I"⟩
def dkwX2_load_5 : List UInt8 := [181, 0, 160, 42, 180, 0, 22, 3, 3, 84, 42, 180, 0, 22, 4, 3, 84, 42, 180, 0, 9, 3, 46, 172]
abbrev dktX2_load_5 : List UInt8 := dkwX2_load_5 ++ []
def dkwX2_load_4 : List UInt8 := [3, 42, 180, 0, 9, 3, 184, 0, 149, 42, 5, 181, 0, 57, 3, 172, 42, 4, 181, 0, 156, 42, 3]
abbrev dktX2_load_4 : List UInt8 := dkwX2_load_4 ++ dktX2_load_5
def dkwX2_load_3 : List UInt8 := [28, 3, 79, 132, 2, 1, 167, 255, 240, 42, 182, 0, 153, 42, 180, 0, 71, 158, 0, 23, 42, 180, 0, 13]
abbrev dktX2_load_3 : List UInt8 := dkwX2_load_3 ++ dktX2_load_4
def dkwX2_load_2 : List UInt8 := [180, 0, 9, 3, 42, 180, 0, 13, 3, 184, 0, 149, 3, 61, 28, 16, 103, 162, 0, 16, 42, 180, 0, 9]
abbrev dktX2_load_2 : List UInt8 := dkwX2_load_2 ++ dktX2_load_3
def dkwX2_load_1 : List UInt8 := [181, 0, 74, 42, 3, 181, 0, 81, 42, 3, 181, 0, 64, 42, 3, 181, 0, 71, 42, 2, 181, 0, 30, 42]
abbrev dktX2_load_1 : List UInt8 := dkwX2_load_1 ++ dktX2_load_2
def dkwX2_load_0 : List UInt8 := [42, 27, 3, 42, 180, 0, 64, 184, 0, 77, 4, 4, 182, 0, 60, 154, 0, 5, 3, 172, 42, 27]
abbrev dktX2_load_0 : List UInt8 := dkwX2_load_0 ++ dktX2_load_1
theorem dksX2_load_0 : cX2_load.data.toList.drop 0 = dktX2_load_0 := by decide +kernel
theorem dksX2_load_1 : cX2_load.data.toList.drop 22 = dktX2_load_1 := dk_seg dksX2_load_0 22 rfl rfl
theorem dksX2_load_2 : cX2_load.data.toList.drop 46 = dktX2_load_2 := dk_seg dksX2_load_1 24 rfl rfl
theorem dksX2_load_3 : cX2_load.data.toList.drop 70 = dktX2_load_3 := dk_seg dksX2_load_2 24 rfl rfl
theorem dksX2_load_4 : cX2_load.data.toList.drop 94 = dktX2_load_4 := dk_seg dksX2_load_3 24 rfl rfl
theorem dksX2_load_5 : cX2_load.data.toList.drop 117 = dktX2_load_5 := dk_seg dksX2_load_4 23 rfl rfl
theorem dX2_load_0 : decode cX2_load 0 = .ok (.aload_n 0, 1) := dk_42 (dk_at dksX2_load_0 0 rfl rfl)
theorem dX2_load_1 : decode cX2_load 1 = .ok (.iload_n 1, 1) := dk_27 (dk_at dksX2_load_0 1 rfl rfl)
theorem dX2_load_2 : decode cX2_load 2 = .ok (.iconst 0, 1) := dk_3 (dk_at dksX2_load_0 2 rfl rfl)
theorem dX2_load_3 : decode cX2_load 3 = .ok (.aload_n 0, 1) := dk_42 (dk_at dksX2_load_0 3 rfl rfl)
theorem dX2_load_4 : decode cX2_load 4 = .ok (.getfield 64, 3) := dk_180 0 64 (dk_at dksX2_load_0 4 rfl rfl)
theorem dX2_load_7 : decode cX2_load 7 = .ok (.invokestatic 77, 3) := dk_184 0 77 (dk_at dksX2_load_0 7 rfl rfl)
theorem dX2_load_10 : decode cX2_load 10 = .ok (.iconst 1, 1) := dk_4 (dk_at dksX2_load_0 10 rfl rfl)
theorem dX2_load_11 : decode cX2_load 11 = .ok (.iconst 1, 1) := dk_4 (dk_at dksX2_load_0 11 rfl rfl)
theorem dX2_load_12 : decode cX2_load 12 = .ok (.invokevirtual 60, 3) := dk_182 0 60 (dk_at dksX2_load_0 12 rfl rfl)
theorem dX2_load_15 : decode cX2_load 15 = .ok (.ifCond .ne 5, 3) := dk_154 0 5 (dk_at dksX2_load_0 15 rfl rfl)
theorem dX2_load_18 : decode cX2_load 18 = .ok (.iconst 0, 1) := dk_3 (dk_at dksX2_load_0 18 rfl rfl)
theorem dX2_load_19 : decode cX2_load 19 = .ok (.ireturn, 1) := dk_172 (dk_at dksX2_load_0 19 rfl rfl)
theorem dX2_load_20 : decode cX2_load 20 = .ok (.aload_n 0, 1) := dk_42 (dk_at dksX2_load_0 20 rfl rfl)
theorem dX2_load_21 : decode cX2_load 21 = .ok (.iload_n 1, 1) := dk_27 (dk_at dksX2_load_0 21 rfl rfl)
theorem dX2_load_22 : decode cX2_load 22 = .ok (.putfield 74, 3) := dk_181 0 74 (dk_at dksX2_load_1 0 rfl rfl)
theorem dX2_load_25 : decode cX2_load 25 = .ok (.aload_n 0, 1) := dk_42 (dk_at dksX2_load_1 3 rfl rfl)
theorem dX2_load_26 : decode cX2_load 26 = .ok (.iconst 0, 1) := dk_3 (dk_at dksX2_load_1 4 rfl rfl)
theorem dX2_load_27 : decode cX2_load 27 = .ok (.putfield 81, 3) := dk_181 0 81 (dk_at dksX2_load_1 5 rfl rfl)
theorem dX2_load_30 : decode cX2_load 30 = .ok (.aload_n 0, 1) := dk_42 (dk_at dksX2_load_1 8 rfl rfl)
theorem dX2_load_31 : decode cX2_load 31 = .ok (.iconst 0, 1) := dk_3 (dk_at dksX2_load_1 9 rfl rfl)
theorem dX2_load_32 : decode cX2_load 32 = .ok (.putfield 64, 3) := dk_181 0 64 (dk_at dksX2_load_1 10 rfl rfl)
theorem dX2_load_35 : decode cX2_load 35 = .ok (.aload_n 0, 1) := dk_42 (dk_at dksX2_load_1 13 rfl rfl)
theorem dX2_load_36 : decode cX2_load 36 = .ok (.iconst 0, 1) := dk_3 (dk_at dksX2_load_1 14 rfl rfl)
theorem dX2_load_37 : decode cX2_load 37 = .ok (.putfield 71, 3) := dk_181 0 71 (dk_at dksX2_load_1 15 rfl rfl)
theorem dX2_load_40 : decode cX2_load 40 = .ok (.aload_n 0, 1) := dk_42 (dk_at dksX2_load_1 18 rfl rfl)
theorem dX2_load_41 : decode cX2_load 41 = .ok (.iconst (-1), 1) := dk_2 (dk_at dksX2_load_1 19 rfl rfl)
theorem dX2_load_42 : decode cX2_load 42 = .ok (.putfield 30, 3) := dk_181 0 30 (dk_at dksX2_load_1 20 rfl rfl)
theorem dX2_load_45 : decode cX2_load 45 = .ok (.aload_n 0, 1) := dk_42 (dk_at dksX2_load_1 23 rfl rfl)
theorem dX2_load_46 : decode cX2_load 46 = .ok (.getfield 9, 3) := dk_180 0 9 (dk_at dksX2_load_2 0 rfl rfl)
theorem dX2_load_49 : decode cX2_load 49 = .ok (.iconst 0, 1) := dk_3 (dk_at dksX2_load_2 3 rfl rfl)
theorem dX2_load_50 : decode cX2_load 50 = .ok (.aload_n 0, 1) := dk_42 (dk_at dksX2_load_2 4 rfl rfl)
theorem dX2_load_51 : decode cX2_load 51 = .ok (.getfield 13, 3) := dk_180 0 13 (dk_at dksX2_load_2 5 rfl rfl)
theorem dX2_load_54 : decode cX2_load 54 = .ok (.iconst 0, 1) := dk_3 (dk_at dksX2_load_2 8 rfl rfl)
theorem dX2_load_55 : decode cX2_load 55 = .ok (.invokestatic 149, 3) := dk_184 0 149 (dk_at dksX2_load_2 9 rfl rfl)
theorem dX2_load_58 : decode cX2_load 58 = .ok (.iconst 0, 1) := dk_3 (dk_at dksX2_load_2 12 rfl rfl)
theorem dX2_load_59 : decode cX2_load 59 = .ok (.istore_n 2, 1) := dk_61 (dk_at dksX2_load_2 13 rfl rfl)
theorem dX2_load_60 : decode cX2_load 60 = .ok (.iload_n 2, 1) := dk_28 (dk_at dksX2_load_2 14 rfl rfl)
theorem dX2_load_61 : decode cX2_load 61 = .ok (.bipush 103, 2) := dk_16 103 (dk_at dksX2_load_2 15 rfl rfl)
theorem dX2_load_63 : decode cX2_load 63 = .ok (.if_icmp .ge 16, 3) := dk_162 0 16 (dk_at dksX2_load_2 17 rfl rfl)
theorem dX2_load_66 : decode cX2_load 66 = .ok (.aload_n 0, 1) := dk_42 (dk_at dksX2_load_2 20 rfl rfl)
theorem dX2_load_67 : decode cX2_load 67 = .ok (.getfield 9, 3) := dk_180 0 9 (dk_at dksX2_load_2 21 rfl rfl)
theorem dX2_load_70 : decode cX2_load 70 = .ok (.iload_n 2, 1) := dk_28 (dk_at dksX2_load_3 0 rfl rfl)
theorem dX2_load_71 : decode cX2_load 71 = .ok (.iconst 0, 1) := dk_3 (dk_at dksX2_load_3 1 rfl rfl)
theorem dX2_load_72 : decode cX2_load 72 = .ok (.iastore, 1) := dk_79 (dk_at dksX2_load_3 2 rfl rfl)
theorem dX2_load_73 : decode cX2_load 73 = .ok (.iinc 2 1, 3) := dk_132 2 1 (dk_at dksX2_load_3 3 rfl rfl)
theorem dX2_load_76 : decode cX2_load 76 = .ok (.goto (-16), 3) := dk_167 255 240 (dk_at dksX2_load_3 6 rfl rfl)
theorem dX2_load_79 : decode cX2_load 79 = .ok (.aload_n 0, 1) := dk_42 (dk_at dksX2_load_3 9 rfl rfl)
theorem dX2_load_80 : decode cX2_load 80 = .ok (.invokevirtual 153, 3) := dk_182 0 153 (dk_at dksX2_load_3 10 rfl rfl)
theorem dX2_load_83 : decode cX2_load 83 = .ok (.aload_n 0, 1) := dk_42 (dk_at dksX2_load_3 13 rfl rfl)
theorem dX2_load_84 : decode cX2_load 84 = .ok (.getfield 71, 3) := dk_180 0 71 (dk_at dksX2_load_3 14 rfl rfl)
theorem dX2_load_87 : decode cX2_load 87 = .ok (.ifCond .le 23, 3) := dk_158 0 23 (dk_at dksX2_load_3 17 rfl rfl)
theorem dX2_load_90 : decode cX2_load 90 = .ok (.aload_n 0, 1) := dk_42 (dk_at dksX2_load_3 20 rfl rfl)
theorem dX2_load_91 : decode cX2_load 91 = .ok (.getfield 13, 3) := dk_180 0 13 (dk_at dksX2_load_3 21 rfl rfl)
theorem dX2_load_94 : decode cX2_load 94 = .ok (.iconst 0, 1) := dk_3 (dk_at dksX2_load_4 0 rfl rfl)
theorem dX2_load_95 : decode cX2_load 95 = .ok (.aload_n 0, 1) := dk_42 (dk_at dksX2_load_4 1 rfl rfl)
theorem dX2_load_96 : decode cX2_load 96 = .ok (.getfield 9, 3) := dk_180 0 9 (dk_at dksX2_load_4 2 rfl rfl)
theorem dX2_load_99 : decode cX2_load 99 = .ok (.iconst 0, 1) := dk_3 (dk_at dksX2_load_4 5 rfl rfl)
theorem dX2_load_100 : decode cX2_load 100 = .ok (.invokestatic 149, 3) := dk_184 0 149 (dk_at dksX2_load_4 6 rfl rfl)
theorem dX2_load_103 : decode cX2_load 103 = .ok (.aload_n 0, 1) := dk_42 (dk_at dksX2_load_4 9 rfl rfl)
theorem dX2_load_104 : decode cX2_load 104 = .ok (.iconst 2, 1) := dk_5 (dk_at dksX2_load_4 10 rfl rfl)
theorem dX2_load_105 : decode cX2_load 105 = .ok (.putfield 57, 3) := dk_181 0 57 (dk_at dksX2_load_4 11 rfl rfl)
theorem dX2_load_108 : decode cX2_load 108 = .ok (.iconst 0, 1) := dk_3 (dk_at dksX2_load_4 14 rfl rfl)
theorem dX2_load_109 : decode cX2_load 109 = .ok (.ireturn, 1) := dk_172 (dk_at dksX2_load_4 15 rfl rfl)
theorem dX2_load_110 : decode cX2_load 110 = .ok (.aload_n 0, 1) := dk_42 (dk_at dksX2_load_4 16 rfl rfl)
theorem dX2_load_111 : decode cX2_load 111 = .ok (.iconst 1, 1) := dk_4 (dk_at dksX2_load_4 17 rfl rfl)
theorem dX2_load_112 : decode cX2_load 112 = .ok (.putfield 156, 3) := dk_181 0 156 (dk_at dksX2_load_4 18 rfl rfl)
theorem dX2_load_115 : decode cX2_load 115 = .ok (.aload_n 0, 1) := dk_42 (dk_at dksX2_load_4 21 rfl rfl)
theorem dX2_load_116 : decode cX2_load 116 = .ok (.iconst 0, 1) := dk_3 (dk_at dksX2_load_4 22 rfl rfl)
theorem dX2_load_117 : decode cX2_load 117 = .ok (.putfield 160, 3) := dk_181 0 160 (dk_at dksX2_load_5 0 rfl rfl)
theorem dX2_load_120 : decode cX2_load 120 = .ok (.aload_n 0, 1) := dk_42 (dk_at dksX2_load_5 3 rfl rfl)
theorem dX2_load_121 : decode cX2_load 121 = .ok (.getfield 22, 3) := dk_180 0 22 (dk_at dksX2_load_5 4 rfl rfl)
theorem dX2_load_124 : decode cX2_load 124 = .ok (.iconst 0, 1) := dk_3 (dk_at dksX2_load_5 7 rfl rfl)
theorem dX2_load_125 : decode cX2_load 125 = .ok (.iconst 0, 1) := dk_3 (dk_at dksX2_load_5 8 rfl rfl)
theorem dX2_load_126 : decode cX2_load 126 = .ok (.bastore, 1) := dk_84 (dk_at dksX2_load_5 9 rfl rfl)
theorem dX2_load_127 : decode cX2_load 127 = .ok (.aload_n 0, 1) := dk_42 (dk_at dksX2_load_5 10 rfl rfl)
theorem dX2_load_128 : decode cX2_load 128 = .ok (.getfield 22, 3) := dk_180 0 22 (dk_at dksX2_load_5 11 rfl rfl)
theorem dX2_load_131 : decode cX2_load 131 = .ok (.iconst 1, 1) := dk_4 (dk_at dksX2_load_5 14 rfl rfl)
theorem dX2_load_132 : decode cX2_load 132 = .ok (.iconst 0, 1) := dk_3 (dk_at dksX2_load_5 15 rfl rfl)
theorem dX2_load_133 : decode cX2_load 133 = .ok (.bastore, 1) := dk_84 (dk_at dksX2_load_5 16 rfl rfl)
theorem dX2_load_134 : decode cX2_load 134 = .ok (.aload_n 0, 1) := dk_42 (dk_at dksX2_load_5 17 rfl rfl)
theorem dX2_load_135 : decode cX2_load 135 = .ok (.getfield 9, 3) := dk_180 0 9 (dk_at dksX2_load_5 18 rfl rfl)
theorem dX2_load_138 : decode cX2_load 138 = .ok (.iconst 0, 1) := dk_3 (dk_at dksX2_load_5 21 rfl rfl)
theorem dX2_load_139 : decode cX2_load 139 = .ok (.iaload, 1) := dk_46 (dk_at dksX2_load_5 22 rfl rfl)
theorem dX2_load_140 : decode cX2_load 140 = .ok (.ireturn, 1) := dk_172 (dk_at dksX2_load_5 23 rfl rfl)
abbrev cX2_mayTwo : ByteArray := prog_10_method_6_code
def yX2_mayTwo : MethodName := ⟨RX2, "mayTwo", "(ZZ)Z"⟩
def dkwX2_mayTwo_0 : List UInt8 := [42, 27, 28, 4, 182, 0, 60, 172]
abbrev dktX2_mayTwo_0 : List UInt8 := dkwX2_mayTwo_0 ++ []
theorem dksX2_mayTwo_0 : cX2_mayTwo.data.toList.drop 0 = dktX2_mayTwo_0 := by decide +kernel
theorem dX2_mayTwo_0 : decode cX2_mayTwo 0 = .ok (.aload_n 0, 1) := dk_42 (dk_at dksX2_mayTwo_0 0 rfl rfl)
theorem dX2_mayTwo_1 : decode cX2_mayTwo 1 = .ok (.iload_n 1, 1) := dk_27 (dk_at dksX2_mayTwo_0 1 rfl rfl)
theorem dX2_mayTwo_2 : decode cX2_mayTwo 2 = .ok (.iload_n 2, 1) := dk_28 (dk_at dksX2_mayTwo_0 2 rfl rfl)
theorem dX2_mayTwo_3 : decode cX2_mayTwo 3 = .ok (.iconst 1, 1) := dk_4 (dk_at dksX2_mayTwo_0 3 rfl rfl)
theorem dX2_mayTwo_4 : decode cX2_mayTwo 4 = .ok (.invokevirtual 60, 3) := dk_182 0 60 (dk_at dksX2_mayTwo_0 4 rfl rfl)
theorem dX2_mayTwo_7 : decode cX2_mayTwo 7 = .ok (.ireturn, 1) := dk_172 (dk_at dksX2_mayTwo_0 7 rfl rfl)
abbrev cX2_fixedMany : ByteArray := prog_10_method_39_code
def yX2_fixedMany : MethodName := ⟨RX2, "fixedMany", "()I"⟩
def dkwX2_fixedMany_1 : List UInt8 := [132, 2, 1, 167, 255, 234, 27, 172]
abbrev dktX2_fixedMany_1 : List UInt8 := dkwX2_fixedMany_1 ++ []
def dkwX2_fixedMany_0 : List UInt8 := [3, 60, 3, 61, 28, 42, 180, 0, 9, 3, 46, 162, 0, 18, 27, 42, 28, 5, 182, 0, 163, 96, 60]
abbrev dktX2_fixedMany_0 : List UInt8 := dkwX2_fixedMany_0 ++ dktX2_fixedMany_1
theorem dksX2_fixedMany_0 : cX2_fixedMany.data.toList.drop 0 = dktX2_fixedMany_0 := by decide +kernel
theorem dksX2_fixedMany_1 : cX2_fixedMany.data.toList.drop 23 = dktX2_fixedMany_1 := dk_seg dksX2_fixedMany_0 23 rfl rfl
theorem dX2_fixedMany_0 : decode cX2_fixedMany 0 = .ok (.iconst 0, 1) := dk_3 (dk_at dksX2_fixedMany_0 0 rfl rfl)
theorem dX2_fixedMany_1 : decode cX2_fixedMany 1 = .ok (.istore_n 1, 1) := dk_60 (dk_at dksX2_fixedMany_0 1 rfl rfl)
theorem dX2_fixedMany_2 : decode cX2_fixedMany 2 = .ok (.iconst 0, 1) := dk_3 (dk_at dksX2_fixedMany_0 2 rfl rfl)
theorem dX2_fixedMany_3 : decode cX2_fixedMany 3 = .ok (.istore_n 2, 1) := dk_61 (dk_at dksX2_fixedMany_0 3 rfl rfl)
theorem dX2_fixedMany_4 : decode cX2_fixedMany 4 = .ok (.iload_n 2, 1) := dk_28 (dk_at dksX2_fixedMany_0 4 rfl rfl)
theorem dX2_fixedMany_5 : decode cX2_fixedMany 5 = .ok (.aload_n 0, 1) := dk_42 (dk_at dksX2_fixedMany_0 5 rfl rfl)
theorem dX2_fixedMany_6 : decode cX2_fixedMany 6 = .ok (.getfield 9, 3) := dk_180 0 9 (dk_at dksX2_fixedMany_0 6 rfl rfl)
theorem dX2_fixedMany_9 : decode cX2_fixedMany 9 = .ok (.iconst 0, 1) := dk_3 (dk_at dksX2_fixedMany_0 9 rfl rfl)
theorem dX2_fixedMany_10 : decode cX2_fixedMany 10 = .ok (.iaload, 1) := dk_46 (dk_at dksX2_fixedMany_0 10 rfl rfl)
theorem dX2_fixedMany_11 : decode cX2_fixedMany 11 = .ok (.if_icmp .ge 18, 3) := dk_162 0 18 (dk_at dksX2_fixedMany_0 11 rfl rfl)
theorem dX2_fixedMany_14 : decode cX2_fixedMany 14 = .ok (.iload_n 1, 1) := dk_27 (dk_at dksX2_fixedMany_0 14 rfl rfl)
theorem dX2_fixedMany_15 : decode cX2_fixedMany 15 = .ok (.aload_n 0, 1) := dk_42 (dk_at dksX2_fixedMany_0 15 rfl rfl)
theorem dX2_fixedMany_16 : decode cX2_fixedMany 16 = .ok (.iload_n 2, 1) := dk_28 (dk_at dksX2_fixedMany_0 16 rfl rfl)
theorem dX2_fixedMany_17 : decode cX2_fixedMany 17 = .ok (.iconst 2, 1) := dk_5 (dk_at dksX2_fixedMany_0 17 rfl rfl)
theorem dX2_fixedMany_18 : decode cX2_fixedMany 18 = .ok (.invokevirtual 163, 3) := dk_182 0 163 (dk_at dksX2_fixedMany_0 18 rfl rfl)
theorem dX2_fixedMany_21 : decode cX2_fixedMany 21 = .ok (.iadd, 1) := dk_96 (dk_at dksX2_fixedMany_0 21 rfl rfl)
theorem dX2_fixedMany_22 : decode cX2_fixedMany 22 = .ok (.istore_n 1, 1) := dk_60 (dk_at dksX2_fixedMany_0 22 rfl rfl)
theorem dX2_fixedMany_23 : decode cX2_fixedMany 23 = .ok (.iinc 2 1, 3) := dk_132 2 1 (dk_at dksX2_fixedMany_1 0 rfl rfl)
theorem dX2_fixedMany_26 : decode cX2_fixedMany 26 = .ok (.goto (-22), 3) := dk_167 255 234 (dk_at dksX2_fixedMany_1 3 rfl rfl)
theorem dX2_fixedMany_29 : decode cX2_fixedMany 29 = .ok (.iload_n 1, 1) := dk_27 (dk_at dksX2_fixedMany_1 6 rfl rfl)
theorem dX2_fixedMany_30 : decode cX2_fixedMany 30 = .ok (.ireturn, 1) := dk_172 (dk_at dksX2_fixedMany_1 7 rfl rfl)
abbrev cX2_wide : ByteArray := prog_10_method_30_code
def yX2_wide : MethodName := ⟨RX2, "wide", "(I)I"⟩
def dkwX2_wide_0 : List UInt8 := [17, 1, 0, 26, 122, 172]
abbrev dktX2_wide_0 : List UInt8 := dkwX2_wide_0 ++ []
theorem dksX2_wide_0 : cX2_wide.data.toList.drop 0 = dktX2_wide_0 := by decide +kernel
theorem dX2_wide_0 : decode cX2_wide 0 = .ok (.sipush 256, 3) := dk_17 1 0 (dk_at dksX2_wide_0 0 rfl rfl)
theorem dX2_wide_3 : decode cX2_wide 3 = .ok (.iload_n 0, 1) := dk_26 (dk_at dksX2_wide_0 3 rfl rfl)
theorem dX2_wide_4 : decode cX2_wide 4 = .ok (.ishr, 1) := dk_122 (dk_at dksX2_wide_0 4 rfl rfl)
theorem dX2_wide_5 : decode cX2_wide 5 = .ok (.ireturn, 1) := dk_172 (dk_at dksX2_wide_0 5 rfl rfl)
abbrev cX2_boxOf : ByteArray := prog_10_method_31_code
def yX2_boxOf : MethodName := ⟨RX2, "boxOf", "(II)I"⟩
def dkwX2_boxOf_0 : List UInt8 := [27, 26, 184, 0, 174, 108, 172]
abbrev dktX2_boxOf_0 : List UInt8 := dkwX2_boxOf_0 ++ []
theorem dksX2_boxOf_0 : cX2_boxOf.data.toList.drop 0 = dktX2_boxOf_0 := by decide +kernel
theorem dX2_boxOf_0 : decode cX2_boxOf 0 = .ok (.iload_n 1, 1) := dk_27 (dk_at dksX2_boxOf_0 0 rfl rfl)
theorem dX2_boxOf_1 : decode cX2_boxOf 1 = .ok (.iload_n 0, 1) := dk_26 (dk_at dksX2_boxOf_0 1 rfl rfl)
theorem dX2_boxOf_2 : decode cX2_boxOf 2 = .ok (.invokestatic 174, 3) := dk_184 0 174 (dk_at dksX2_boxOf_0 2 rfl rfl)
theorem dX2_boxOf_5 : decode cX2_boxOf 5 = .ok (.idiv, 1) := dk_108 (dk_at dksX2_boxOf_0 5 rfl rfl)
theorem dX2_boxOf_6 : decode cX2_boxOf 6 = .ok (.ireturn, 1) := dk_172 (dk_at dksX2_boxOf_0 6 rfl rfl)
abbrev cX2_isIn : ByteArray := prog_10_method_33_code
def yX2_isIn : MethodName := ⟨RX2, "isIn", "(III)Z"⟩
def dkwX2_isIn_0 : List UInt8 := [28, 42, 27, 3, 182, 0, 163, 184, 0, 178, 29, 160, 0, 7, 4, 167, 0, 4, 3, 172]
abbrev dktX2_isIn_0 : List UInt8 := dkwX2_isIn_0 ++ []
theorem dksX2_isIn_0 : cX2_isIn.data.toList.drop 0 = dktX2_isIn_0 := by decide +kernel
theorem dX2_isIn_0 : decode cX2_isIn 0 = .ok (.iload_n 2, 1) := dk_28 (dk_at dksX2_isIn_0 0 rfl rfl)
theorem dX2_isIn_1 : decode cX2_isIn 1 = .ok (.aload_n 0, 1) := dk_42 (dk_at dksX2_isIn_0 1 rfl rfl)
theorem dX2_isIn_2 : decode cX2_isIn 2 = .ok (.iload_n 1, 1) := dk_27 (dk_at dksX2_isIn_0 2 rfl rfl)
theorem dX2_isIn_3 : decode cX2_isIn 3 = .ok (.iconst 0, 1) := dk_3 (dk_at dksX2_isIn_0 3 rfl rfl)
theorem dX2_isIn_4 : decode cX2_isIn 4 = .ok (.invokevirtual 163, 3) := dk_182 0 163 (dk_at dksX2_isIn_0 4 rfl rfl)
theorem dX2_isIn_7 : decode cX2_isIn 7 = .ok (.invokestatic 178, 3) := dk_184 0 178 (dk_at dksX2_isIn_0 7 rfl rfl)
theorem dX2_isIn_10 : decode cX2_isIn 10 = .ok (.iload_n 3, 1) := dk_29 (dk_at dksX2_isIn_0 10 rfl rfl)
theorem dX2_isIn_11 : decode cX2_isIn 11 = .ok (.if_icmp .ne 7, 3) := dk_160 0 7 (dk_at dksX2_isIn_0 11 rfl rfl)
theorem dX2_isIn_14 : decode cX2_isIn 14 = .ok (.iconst 1, 1) := dk_4 (dk_at dksX2_isIn_0 14 rfl rfl)
theorem dX2_isIn_15 : decode cX2_isIn 15 = .ok (.goto 4, 3) := dk_167 0 4 (dk_at dksX2_isIn_0 15 rfl rfl)
theorem dX2_isIn_18 : decode cX2_isIn 18 = .ok (.iconst 0, 1) := dk_3 (dk_at dksX2_isIn_0 18 rfl rfl)
theorem dX2_isIn_19 : decode cX2_isIn 19 = .ok (.ireturn, 1) := dk_172 (dk_at dksX2_isIn_0 19 rfl rfl)
abbrev cX2_far : ByteArray := prog_10_method_36_code
def yX2_far : MethodName := ⟨RX2, "far", "(II)I"⟩
def dkwX2_far_0 : List UInt8 := [26, 27, 162, 0, 9, 27, 26, 100, 167, 0, 6, 26, 27, 100, 172]
abbrev dktX2_far_0 : List UInt8 := dkwX2_far_0 ++ []
theorem dksX2_far_0 : cX2_far.data.toList.drop 0 = dktX2_far_0 := by decide +kernel
theorem dX2_far_0 : decode cX2_far 0 = .ok (.iload_n 0, 1) := dk_26 (dk_at dksX2_far_0 0 rfl rfl)
theorem dX2_far_1 : decode cX2_far 1 = .ok (.iload_n 1, 1) := dk_27 (dk_at dksX2_far_0 1 rfl rfl)
theorem dX2_far_2 : decode cX2_far 2 = .ok (.if_icmp .ge 9, 3) := dk_162 0 9 (dk_at dksX2_far_0 2 rfl rfl)
theorem dX2_far_5 : decode cX2_far 5 = .ok (.iload_n 1, 1) := dk_27 (dk_at dksX2_far_0 5 rfl rfl)
theorem dX2_far_6 : decode cX2_far 6 = .ok (.iload_n 0, 1) := dk_26 (dk_at dksX2_far_0 6 rfl rfl)
theorem dX2_far_7 : decode cX2_far 7 = .ok (.isub, 1) := dk_100 (dk_at dksX2_far_0 7 rfl rfl)
theorem dX2_far_8 : decode cX2_far 8 = .ok (.goto 6, 3) := dk_167 0 6 (dk_at dksX2_far_0 8 rfl rfl)
theorem dX2_far_11 : decode cX2_far 11 = .ok (.iload_n 0, 1) := dk_26 (dk_at dksX2_far_0 11 rfl rfl)
theorem dX2_far_12 : decode cX2_far 12 = .ok (.iload_n 1, 1) := dk_27 (dk_at dksX2_far_0 12 rfl rfl)
theorem dX2_far_13 : decode cX2_far 13 = .ok (.isub, 1) := dk_100 (dk_at dksX2_far_0 13 rfl rfl)
theorem dX2_far_14 : decode cX2_far 14 = .ok (.ireturn, 1) := dk_172 (dk_at dksX2_far_0 14 rfl rfl)
abbrev cX2_charge : ByteArray := prog_10_method_38_code
def yX2_charge : MethodName := ⟨RX2, "charge", "(IIZ)I"⟩
def dkwX2_charge_3 : List UInt8 := [172]
abbrev dktX2_charge_3 : List UInt8 := dkwX2_charge_3 ++ []
def dkwX2_charge_2 : List UInt8 := [184, 0, 187, 167, 0, 10, 42, 21, 5, 4, 182, 0, 163, 96, 54, 4, 132, 5, 1, 167, 255, 198, 21, 4]
abbrev dktX2_charge_2 : List UInt8 := dkwX2_charge_2 ++ dktX2_charge_3
def dkwX2_charge_1 : List UInt8 := [182, 0, 184, 154, 0, 6, 167, 0, 33, 21, 4, 29, 153, 0, 17, 42, 21, 5, 4, 182, 0, 163, 3]
abbrev dktX2_charge_1 : List UInt8 := dkwX2_charge_1 ++ dktX2_charge_2
def dkwX2_charge_0 : List UInt8 := [3, 54, 4, 3, 54, 5, 21, 5, 42, 180, 0, 9, 3, 46, 162, 0, 53, 42, 21, 5, 27, 28]
abbrev dktX2_charge_0 : List UInt8 := dkwX2_charge_0 ++ dktX2_charge_1
theorem dksX2_charge_0 : cX2_charge.data.toList.drop 0 = dktX2_charge_0 := by decide +kernel
theorem dksX2_charge_1 : cX2_charge.data.toList.drop 22 = dktX2_charge_1 := dk_seg dksX2_charge_0 22 rfl rfl
theorem dksX2_charge_2 : cX2_charge.data.toList.drop 45 = dktX2_charge_2 := dk_seg dksX2_charge_1 23 rfl rfl
theorem dksX2_charge_3 : cX2_charge.data.toList.drop 69 = dktX2_charge_3 := dk_seg dksX2_charge_2 24 rfl rfl
theorem dX2_charge_0 : decode cX2_charge 0 = .ok (.iconst 0, 1) := dk_3 (dk_at dksX2_charge_0 0 rfl rfl)
theorem dX2_charge_1 : decode cX2_charge 1 = .ok (.istore 4, 2) := dk_54 4 (dk_at dksX2_charge_0 1 rfl rfl)
theorem dX2_charge_3 : decode cX2_charge 3 = .ok (.iconst 0, 1) := dk_3 (dk_at dksX2_charge_0 3 rfl rfl)
theorem dX2_charge_4 : decode cX2_charge 4 = .ok (.istore 5, 2) := dk_54 5 (dk_at dksX2_charge_0 4 rfl rfl)
theorem dX2_charge_6 : decode cX2_charge 6 = .ok (.iload 5, 2) := dk_21 5 (dk_at dksX2_charge_0 6 rfl rfl)
theorem dX2_charge_8 : decode cX2_charge 8 = .ok (.aload_n 0, 1) := dk_42 (dk_at dksX2_charge_0 8 rfl rfl)
theorem dX2_charge_9 : decode cX2_charge 9 = .ok (.getfield 9, 3) := dk_180 0 9 (dk_at dksX2_charge_0 9 rfl rfl)
theorem dX2_charge_12 : decode cX2_charge 12 = .ok (.iconst 0, 1) := dk_3 (dk_at dksX2_charge_0 12 rfl rfl)
theorem dX2_charge_13 : decode cX2_charge 13 = .ok (.iaload, 1) := dk_46 (dk_at dksX2_charge_0 13 rfl rfl)
theorem dX2_charge_14 : decode cX2_charge 14 = .ok (.if_icmp .ge 53, 3) := dk_162 0 53 (dk_at dksX2_charge_0 14 rfl rfl)
theorem dX2_charge_17 : decode cX2_charge 17 = .ok (.aload_n 0, 1) := dk_42 (dk_at dksX2_charge_0 17 rfl rfl)
theorem dX2_charge_18 : decode cX2_charge 18 = .ok (.iload 5, 2) := dk_21 5 (dk_at dksX2_charge_0 18 rfl rfl)
theorem dX2_charge_20 : decode cX2_charge 20 = .ok (.iload_n 1, 1) := dk_27 (dk_at dksX2_charge_0 20 rfl rfl)
theorem dX2_charge_21 : decode cX2_charge 21 = .ok (.iload_n 2, 1) := dk_28 (dk_at dksX2_charge_0 21 rfl rfl)
theorem dX2_charge_22 : decode cX2_charge 22 = .ok (.invokevirtual 184, 3) := dk_182 0 184 (dk_at dksX2_charge_1 0 rfl rfl)
theorem dX2_charge_25 : decode cX2_charge 25 = .ok (.ifCond .ne 6, 3) := dk_154 0 6 (dk_at dksX2_charge_1 3 rfl rfl)
theorem dX2_charge_28 : decode cX2_charge 28 = .ok (.goto 33, 3) := dk_167 0 33 (dk_at dksX2_charge_1 6 rfl rfl)
theorem dX2_charge_31 : decode cX2_charge 31 = .ok (.iload 4, 2) := dk_21 4 (dk_at dksX2_charge_1 9 rfl rfl)
theorem dX2_charge_33 : decode cX2_charge 33 = .ok (.iload_n 3, 1) := dk_29 (dk_at dksX2_charge_1 11 rfl rfl)
theorem dX2_charge_34 : decode cX2_charge 34 = .ok (.ifCond .eq 17, 3) := dk_153 0 17 (dk_at dksX2_charge_1 12 rfl rfl)
theorem dX2_charge_37 : decode cX2_charge 37 = .ok (.aload_n 0, 1) := dk_42 (dk_at dksX2_charge_1 15 rfl rfl)
theorem dX2_charge_38 : decode cX2_charge 38 = .ok (.iload 5, 2) := dk_21 5 (dk_at dksX2_charge_1 16 rfl rfl)
theorem dX2_charge_40 : decode cX2_charge 40 = .ok (.iconst 1, 1) := dk_4 (dk_at dksX2_charge_1 18 rfl rfl)
theorem dX2_charge_41 : decode cX2_charge 41 = .ok (.invokevirtual 163, 3) := dk_182 0 163 (dk_at dksX2_charge_1 19 rfl rfl)
theorem dX2_charge_44 : decode cX2_charge 44 = .ok (.iconst 0, 1) := dk_3 (dk_at dksX2_charge_1 22 rfl rfl)
theorem dX2_charge_45 : decode cX2_charge 45 = .ok (.invokestatic 187, 3) := dk_184 0 187 (dk_at dksX2_charge_2 0 rfl rfl)
theorem dX2_charge_48 : decode cX2_charge 48 = .ok (.goto 10, 3) := dk_167 0 10 (dk_at dksX2_charge_2 3 rfl rfl)
theorem dX2_charge_51 : decode cX2_charge 51 = .ok (.aload_n 0, 1) := dk_42 (dk_at dksX2_charge_2 6 rfl rfl)
theorem dX2_charge_52 : decode cX2_charge 52 = .ok (.iload 5, 2) := dk_21 5 (dk_at dksX2_charge_2 7 rfl rfl)
theorem dX2_charge_54 : decode cX2_charge 54 = .ok (.iconst 1, 1) := dk_4 (dk_at dksX2_charge_2 9 rfl rfl)
theorem dX2_charge_55 : decode cX2_charge 55 = .ok (.invokevirtual 163, 3) := dk_182 0 163 (dk_at dksX2_charge_2 10 rfl rfl)
theorem dX2_charge_58 : decode cX2_charge 58 = .ok (.iadd, 1) := dk_96 (dk_at dksX2_charge_2 13 rfl rfl)
theorem dX2_charge_59 : decode cX2_charge 59 = .ok (.istore 4, 2) := dk_54 4 (dk_at dksX2_charge_2 14 rfl rfl)
theorem dX2_charge_61 : decode cX2_charge 61 = .ok (.iinc 5 1, 3) := dk_132 5 1 (dk_at dksX2_charge_2 16 rfl rfl)
theorem dX2_charge_64 : decode cX2_charge 64 = .ok (.goto (-58), 3) := dk_167 255 198 (dk_at dksX2_charge_2 19 rfl rfl)
theorem dX2_charge_67 : decode cX2_charge 67 = .ok (.iload 4, 2) := dk_21 4 (dk_at dksX2_charge_2 22 rfl rfl)
theorem dX2_charge_69 : decode cX2_charge 69 = .ok (.ireturn, 1) := dk_172 (dk_at dksX2_charge_3 0 rfl rfl)
abbrev cX2_bodiesIn : ByteArray := prog_10_method_37_code
def yX2_bodiesIn : MethodName := ⟨RX2, "bodiesIn", "(II)I"⟩
def dkwX2_bodiesIn_1 : List UInt8 := [182, 0, 184, 184, 0, 170, 96, 62, 132, 4, 1, 167, 255, 228, 29, 172]
abbrev dktX2_bodiesIn_1 : List UInt8 := dkwX2_bodiesIn_1 ++ []
def dkwX2_bodiesIn_0 : List UInt8 := [3, 62, 3, 54, 4, 21, 4, 42, 180, 0, 9, 3, 46, 162, 0, 23, 29, 42, 21, 4, 27, 28]
abbrev dktX2_bodiesIn_0 : List UInt8 := dkwX2_bodiesIn_0 ++ dktX2_bodiesIn_1
theorem dksX2_bodiesIn_0 : cX2_bodiesIn.data.toList.drop 0 = dktX2_bodiesIn_0 := by decide +kernel
theorem dksX2_bodiesIn_1 : cX2_bodiesIn.data.toList.drop 22 = dktX2_bodiesIn_1 := dk_seg dksX2_bodiesIn_0 22 rfl rfl
theorem dX2_bodiesIn_0 : decode cX2_bodiesIn 0 = .ok (.iconst 0, 1) := dk_3 (dk_at dksX2_bodiesIn_0 0 rfl rfl)
theorem dX2_bodiesIn_1 : decode cX2_bodiesIn 1 = .ok (.istore_n 3, 1) := dk_62 (dk_at dksX2_bodiesIn_0 1 rfl rfl)
theorem dX2_bodiesIn_2 : decode cX2_bodiesIn 2 = .ok (.iconst 0, 1) := dk_3 (dk_at dksX2_bodiesIn_0 2 rfl rfl)
theorem dX2_bodiesIn_3 : decode cX2_bodiesIn 3 = .ok (.istore 4, 2) := dk_54 4 (dk_at dksX2_bodiesIn_0 3 rfl rfl)
theorem dX2_bodiesIn_5 : decode cX2_bodiesIn 5 = .ok (.iload 4, 2) := dk_21 4 (dk_at dksX2_bodiesIn_0 5 rfl rfl)
theorem dX2_bodiesIn_7 : decode cX2_bodiesIn 7 = .ok (.aload_n 0, 1) := dk_42 (dk_at dksX2_bodiesIn_0 7 rfl rfl)
theorem dX2_bodiesIn_8 : decode cX2_bodiesIn 8 = .ok (.getfield 9, 3) := dk_180 0 9 (dk_at dksX2_bodiesIn_0 8 rfl rfl)
theorem dX2_bodiesIn_11 : decode cX2_bodiesIn 11 = .ok (.iconst 0, 1) := dk_3 (dk_at dksX2_bodiesIn_0 11 rfl rfl)
theorem dX2_bodiesIn_12 : decode cX2_bodiesIn 12 = .ok (.iaload, 1) := dk_46 (dk_at dksX2_bodiesIn_0 12 rfl rfl)
theorem dX2_bodiesIn_13 : decode cX2_bodiesIn 13 = .ok (.if_icmp .ge 23, 3) := dk_162 0 23 (dk_at dksX2_bodiesIn_0 13 rfl rfl)
theorem dX2_bodiesIn_16 : decode cX2_bodiesIn 16 = .ok (.iload_n 3, 1) := dk_29 (dk_at dksX2_bodiesIn_0 16 rfl rfl)
theorem dX2_bodiesIn_17 : decode cX2_bodiesIn 17 = .ok (.aload_n 0, 1) := dk_42 (dk_at dksX2_bodiesIn_0 17 rfl rfl)
theorem dX2_bodiesIn_18 : decode cX2_bodiesIn 18 = .ok (.iload 4, 2) := dk_21 4 (dk_at dksX2_bodiesIn_0 18 rfl rfl)
theorem dX2_bodiesIn_20 : decode cX2_bodiesIn 20 = .ok (.iload_n 1, 1) := dk_27 (dk_at dksX2_bodiesIn_0 20 rfl rfl)
theorem dX2_bodiesIn_21 : decode cX2_bodiesIn 21 = .ok (.iload_n 2, 1) := dk_28 (dk_at dksX2_bodiesIn_0 21 rfl rfl)
theorem dX2_bodiesIn_22 : decode cX2_bodiesIn 22 = .ok (.invokevirtual 184, 3) := dk_182 0 184 (dk_at dksX2_bodiesIn_1 0 rfl rfl)
theorem dX2_bodiesIn_25 : decode cX2_bodiesIn 25 = .ok (.invokestatic 170, 3) := dk_184 0 170 (dk_at dksX2_bodiesIn_1 3 rfl rfl)
theorem dX2_bodiesIn_28 : decode cX2_bodiesIn 28 = .ok (.iadd, 1) := dk_96 (dk_at dksX2_bodiesIn_1 6 rfl rfl)
theorem dX2_bodiesIn_29 : decode cX2_bodiesIn 29 = .ok (.istore_n 3, 1) := dk_62 (dk_at dksX2_bodiesIn_1 7 rfl rfl)
theorem dX2_bodiesIn_30 : decode cX2_bodiesIn 30 = .ok (.iinc 4 1, 3) := dk_132 4 1 (dk_at dksX2_bodiesIn_1 8 rfl rfl)
theorem dX2_bodiesIn_33 : decode cX2_bodiesIn 33 = .ok (.goto (-28), 3) := dk_167 255 228 (dk_at dksX2_bodiesIn_1 11 rfl rfl)
theorem dX2_bodiesIn_36 : decode cX2_bodiesIn 36 = .ok (.iload_n 3, 1) := dk_29 (dk_at dksX2_bodiesIn_1 14 rfl rfl)
theorem dX2_bodiesIn_37 : decode cX2_bodiesIn 37 = .ok (.ireturn, 1) := dk_172 (dk_at dksX2_bodiesIn_1 15 rfl rfl)
abbrev cX2_full : ByteArray := prog_10_method_40_code
def yX2_full : MethodName := ⟨RX2, "full", "()I"⟩
def dkwX2_full_2 : List UInt8 := [172]
abbrev dktX2_full_2 : List UInt8 := dkwX2_full_2 ++ []
def dkwX2_full_1 : List UInt8 := [28, 182, 0, 190, 158, 0, 7, 4, 167, 0, 4, 3, 184, 0, 170, 96, 60, 132, 2, 1, 167, 255, 216, 27]
abbrev dktX2_full_1 : List UInt8 := dkwX2_full_1 ++ dktX2_full_2
def dkwX2_full_0 : List UInt8 := [3, 60, 3, 61, 28, 4, 42, 180, 0, 9, 6, 46, 120, 162, 0, 34, 27, 42, 42, 180, 0, 9, 6, 46]
abbrev dktX2_full_0 : List UInt8 := dkwX2_full_0 ++ dktX2_full_1
theorem dksX2_full_0 : cX2_full.data.toList.drop 0 = dktX2_full_0 := by decide +kernel
theorem dksX2_full_1 : cX2_full.data.toList.drop 24 = dktX2_full_1 := dk_seg dksX2_full_0 24 rfl rfl
theorem dksX2_full_2 : cX2_full.data.toList.drop 48 = dktX2_full_2 := dk_seg dksX2_full_1 24 rfl rfl
theorem dX2_full_0 : decode cX2_full 0 = .ok (.iconst 0, 1) := dk_3 (dk_at dksX2_full_0 0 rfl rfl)
theorem dX2_full_1 : decode cX2_full 1 = .ok (.istore_n 1, 1) := dk_60 (dk_at dksX2_full_0 1 rfl rfl)
theorem dX2_full_2 : decode cX2_full 2 = .ok (.iconst 0, 1) := dk_3 (dk_at dksX2_full_0 2 rfl rfl)
theorem dX2_full_3 : decode cX2_full 3 = .ok (.istore_n 2, 1) := dk_61 (dk_at dksX2_full_0 3 rfl rfl)
theorem dX2_full_4 : decode cX2_full 4 = .ok (.iload_n 2, 1) := dk_28 (dk_at dksX2_full_0 4 rfl rfl)
theorem dX2_full_5 : decode cX2_full 5 = .ok (.iconst 1, 1) := dk_4 (dk_at dksX2_full_0 5 rfl rfl)
theorem dX2_full_6 : decode cX2_full 6 = .ok (.aload_n 0, 1) := dk_42 (dk_at dksX2_full_0 6 rfl rfl)
theorem dX2_full_7 : decode cX2_full 7 = .ok (.getfield 9, 3) := dk_180 0 9 (dk_at dksX2_full_0 7 rfl rfl)
theorem dX2_full_10 : decode cX2_full 10 = .ok (.iconst 3, 1) := dk_6 (dk_at dksX2_full_0 10 rfl rfl)
theorem dX2_full_11 : decode cX2_full 11 = .ok (.iaload, 1) := dk_46 (dk_at dksX2_full_0 11 rfl rfl)
theorem dX2_full_12 : decode cX2_full 12 = .ok (.ishl, 1) := dk_120 (dk_at dksX2_full_0 12 rfl rfl)
theorem dX2_full_13 : decode cX2_full 13 = .ok (.if_icmp .ge 34, 3) := dk_162 0 34 (dk_at dksX2_full_0 13 rfl rfl)
theorem dX2_full_16 : decode cX2_full 16 = .ok (.iload_n 1, 1) := dk_27 (dk_at dksX2_full_0 16 rfl rfl)
theorem dX2_full_17 : decode cX2_full 17 = .ok (.aload_n 0, 1) := dk_42 (dk_at dksX2_full_0 17 rfl rfl)
theorem dX2_full_18 : decode cX2_full 18 = .ok (.aload_n 0, 1) := dk_42 (dk_at dksX2_full_0 18 rfl rfl)
theorem dX2_full_19 : decode cX2_full 19 = .ok (.getfield 9, 3) := dk_180 0 9 (dk_at dksX2_full_0 19 rfl rfl)
theorem dX2_full_22 : decode cX2_full 22 = .ok (.iconst 3, 1) := dk_6 (dk_at dksX2_full_0 22 rfl rfl)
theorem dX2_full_23 : decode cX2_full 23 = .ok (.iaload, 1) := dk_46 (dk_at dksX2_full_0 23 rfl rfl)
theorem dX2_full_24 : decode cX2_full 24 = .ok (.iload_n 2, 1) := dk_28 (dk_at dksX2_full_1 0 rfl rfl)
theorem dX2_full_25 : decode cX2_full 25 = .ok (.invokevirtual 190, 3) := dk_182 0 190 (dk_at dksX2_full_1 1 rfl rfl)
theorem dX2_full_28 : decode cX2_full 28 = .ok (.ifCond .le 7, 3) := dk_158 0 7 (dk_at dksX2_full_1 4 rfl rfl)
theorem dX2_full_31 : decode cX2_full 31 = .ok (.iconst 1, 1) := dk_4 (dk_at dksX2_full_1 7 rfl rfl)
theorem dX2_full_32 : decode cX2_full 32 = .ok (.goto 4, 3) := dk_167 0 4 (dk_at dksX2_full_1 8 rfl rfl)
theorem dX2_full_35 : decode cX2_full 35 = .ok (.iconst 0, 1) := dk_3 (dk_at dksX2_full_1 11 rfl rfl)
theorem dX2_full_36 : decode cX2_full 36 = .ok (.invokestatic 170, 3) := dk_184 0 170 (dk_at dksX2_full_1 12 rfl rfl)
theorem dX2_full_39 : decode cX2_full 39 = .ok (.iadd, 1) := dk_96 (dk_at dksX2_full_1 15 rfl rfl)
theorem dX2_full_40 : decode cX2_full 40 = .ok (.istore_n 1, 1) := dk_60 (dk_at dksX2_full_1 16 rfl rfl)
theorem dX2_full_41 : decode cX2_full 41 = .ok (.iinc 2 1, 3) := dk_132 2 1 (dk_at dksX2_full_1 17 rfl rfl)
theorem dX2_full_44 : decode cX2_full 44 = .ok (.goto (-40), 3) := dk_167 255 216 (dk_at dksX2_full_1 20 rfl rfl)
theorem dX2_full_47 : decode cX2_full 47 = .ok (.iload_n 1, 1) := dk_27 (dk_at dksX2_full_1 23 rfl rfl)
theorem dX2_full_48 : decode cX2_full 48 = .ok (.ireturn, 1) := dk_172 (dk_at dksX2_full_2 0 rfl rfl)
abbrev cX2_end : ByteArray := prog_10_method_41_code
def yX2_end : MethodName := ⟨RX2, "end", "(Z)I"⟩
def dkwX2_end_2 : List UInt8 := [3, 182, 0, 163, 61, 132, 3, 1, 167, 255, 204, 28, 172]
abbrev dktX2_end_2 : List UInt8 := dkwX2_end_2 ++ []
def dkwX2_end_1 : List UInt8 := [29, 3, 182, 0, 163, 28, 164, 0, 23, 167, 0, 13, 42, 29, 3, 182, 0, 163, 28, 162, 0, 10, 42, 29]
abbrev dktX2_end_1 : List UInt8 := dkwX2_end_1 ++ dktX2_end_2
def dkwX2_end_0 : List UInt8 := [2, 61, 3, 62, 29, 42, 180, 0, 9, 3, 46, 162, 0, 48, 28, 2, 159, 0, 30, 27, 153, 0, 16, 42]
abbrev dktX2_end_0 : List UInt8 := dkwX2_end_0 ++ dktX2_end_1
theorem dksX2_end_0 : cX2_end.data.toList.drop 0 = dktX2_end_0 := by decide +kernel
theorem dksX2_end_1 : cX2_end.data.toList.drop 24 = dktX2_end_1 := dk_seg dksX2_end_0 24 rfl rfl
theorem dksX2_end_2 : cX2_end.data.toList.drop 48 = dktX2_end_2 := dk_seg dksX2_end_1 24 rfl rfl
theorem dX2_end_0 : decode cX2_end 0 = .ok (.iconst (-1), 1) := dk_2 (dk_at dksX2_end_0 0 rfl rfl)
theorem dX2_end_1 : decode cX2_end 1 = .ok (.istore_n 2, 1) := dk_61 (dk_at dksX2_end_0 1 rfl rfl)
theorem dX2_end_2 : decode cX2_end 2 = .ok (.iconst 0, 1) := dk_3 (dk_at dksX2_end_0 2 rfl rfl)
theorem dX2_end_3 : decode cX2_end 3 = .ok (.istore_n 3, 1) := dk_62 (dk_at dksX2_end_0 3 rfl rfl)
theorem dX2_end_4 : decode cX2_end 4 = .ok (.iload_n 3, 1) := dk_29 (dk_at dksX2_end_0 4 rfl rfl)
theorem dX2_end_5 : decode cX2_end 5 = .ok (.aload_n 0, 1) := dk_42 (dk_at dksX2_end_0 5 rfl rfl)
theorem dX2_end_6 : decode cX2_end 6 = .ok (.getfield 9, 3) := dk_180 0 9 (dk_at dksX2_end_0 6 rfl rfl)
theorem dX2_end_9 : decode cX2_end 9 = .ok (.iconst 0, 1) := dk_3 (dk_at dksX2_end_0 9 rfl rfl)
theorem dX2_end_10 : decode cX2_end 10 = .ok (.iaload, 1) := dk_46 (dk_at dksX2_end_0 10 rfl rfl)
theorem dX2_end_11 : decode cX2_end 11 = .ok (.if_icmp .ge 48, 3) := dk_162 0 48 (dk_at dksX2_end_0 11 rfl rfl)
theorem dX2_end_14 : decode cX2_end 14 = .ok (.iload_n 2, 1) := dk_28 (dk_at dksX2_end_0 14 rfl rfl)
theorem dX2_end_15 : decode cX2_end 15 = .ok (.iconst (-1), 1) := dk_2 (dk_at dksX2_end_0 15 rfl rfl)
theorem dX2_end_16 : decode cX2_end 16 = .ok (.if_icmp .eq 30, 3) := dk_159 0 30 (dk_at dksX2_end_0 16 rfl rfl)
theorem dX2_end_19 : decode cX2_end 19 = .ok (.iload_n 1, 1) := dk_27 (dk_at dksX2_end_0 19 rfl rfl)
theorem dX2_end_20 : decode cX2_end 20 = .ok (.ifCond .eq 16, 3) := dk_153 0 16 (dk_at dksX2_end_0 20 rfl rfl)
theorem dX2_end_23 : decode cX2_end 23 = .ok (.aload_n 0, 1) := dk_42 (dk_at dksX2_end_0 23 rfl rfl)
theorem dX2_end_24 : decode cX2_end 24 = .ok (.iload_n 3, 1) := dk_29 (dk_at dksX2_end_1 0 rfl rfl)
theorem dX2_end_25 : decode cX2_end 25 = .ok (.iconst 0, 1) := dk_3 (dk_at dksX2_end_1 1 rfl rfl)
theorem dX2_end_26 : decode cX2_end 26 = .ok (.invokevirtual 163, 3) := dk_182 0 163 (dk_at dksX2_end_1 2 rfl rfl)
theorem dX2_end_29 : decode cX2_end 29 = .ok (.iload_n 2, 1) := dk_28 (dk_at dksX2_end_1 5 rfl rfl)
theorem dX2_end_30 : decode cX2_end 30 = .ok (.if_icmp .le 23, 3) := dk_164 0 23 (dk_at dksX2_end_1 6 rfl rfl)
theorem dX2_end_33 : decode cX2_end 33 = .ok (.goto 13, 3) := dk_167 0 13 (dk_at dksX2_end_1 9 rfl rfl)
theorem dX2_end_36 : decode cX2_end 36 = .ok (.aload_n 0, 1) := dk_42 (dk_at dksX2_end_1 12 rfl rfl)
theorem dX2_end_37 : decode cX2_end 37 = .ok (.iload_n 3, 1) := dk_29 (dk_at dksX2_end_1 13 rfl rfl)
theorem dX2_end_38 : decode cX2_end 38 = .ok (.iconst 0, 1) := dk_3 (dk_at dksX2_end_1 14 rfl rfl)
theorem dX2_end_39 : decode cX2_end 39 = .ok (.invokevirtual 163, 3) := dk_182 0 163 (dk_at dksX2_end_1 15 rfl rfl)
theorem dX2_end_42 : decode cX2_end 42 = .ok (.iload_n 2, 1) := dk_28 (dk_at dksX2_end_1 18 rfl rfl)
theorem dX2_end_43 : decode cX2_end 43 = .ok (.if_icmp .ge 10, 3) := dk_162 0 10 (dk_at dksX2_end_1 19 rfl rfl)
theorem dX2_end_46 : decode cX2_end 46 = .ok (.aload_n 0, 1) := dk_42 (dk_at dksX2_end_1 22 rfl rfl)
theorem dX2_end_47 : decode cX2_end 47 = .ok (.iload_n 3, 1) := dk_29 (dk_at dksX2_end_1 23 rfl rfl)
theorem dX2_end_48 : decode cX2_end 48 = .ok (.iconst 0, 1) := dk_3 (dk_at dksX2_end_2 0 rfl rfl)
theorem dX2_end_49 : decode cX2_end 49 = .ok (.invokevirtual 163, 3) := dk_182 0 163 (dk_at dksX2_end_2 1 rfl rfl)
theorem dX2_end_52 : decode cX2_end 52 = .ok (.istore_n 2, 1) := dk_61 (dk_at dksX2_end_2 4 rfl rfl)
theorem dX2_end_53 : decode cX2_end 53 = .ok (.iinc 3 1, 3) := dk_132 3 1 (dk_at dksX2_end_2 5 rfl rfl)
theorem dX2_end_56 : decode cX2_end 56 = .ok (.goto (-52), 3) := dk_167 255 204 (dk_at dksX2_end_2 8 rfl rfl)
theorem dX2_end_59 : decode cX2_end 59 = .ok (.iload_n 2, 1) := dk_28 (dk_at dksX2_end_2 11 rfl rfl)
theorem dX2_end_60 : decode cX2_end 60 = .ok (.ireturn, 1) := dk_172 (dk_at dksX2_end_2 12 rfl rfl)
abbrev cX2_count : ByteArray := prog_10_method_42_code
def yX2_count : MethodName := ⟨RX2, "count", "(I)I"⟩
def dkwX2_count_5 : List UInt8 := [184, 0, 174, 172, 42, 180, 0, 9, 27, 46, 172]
abbrev dktX2_count_5 : List UInt8 := dkwX2_count_5 ++ []
def dkwX2_count_4 : List UInt8 := [180, 0, 9, 4, 46, 172, 42, 3, 182, 0, 207, 172, 42, 4, 182, 0, 207, 172, 42, 180, 0, 9, 6, 46]
abbrev dktX2_count_4 : List UInt8 := dkwX2_count_4 ++ dktX2_count_5
def dkwX2_count_3 : List UInt8 := [42, 3, 3, 3, 182, 0, 200, 172, 42, 3, 3, 4, 182, 0, 200, 172, 42, 182, 0, 204, 172, 42]
abbrev dktX2_count_3 : List UInt8 := dkwX2_count_3 ++ dktX2_count_4
def dkwX2_count_2 : List UInt8 := [42, 180, 0, 9, 3, 46, 172, 42, 180, 0, 9, 3, 46, 42, 182, 0, 197, 100, 172, 42, 182, 0, 197, 172]
abbrev dktX2_count_2 : List UInt8 := dkwX2_count_2 ++ dktX2_count_3
def dkwX2_count_1 : List UInt8 := [170, 0, 0, 0, 0, 0, 145, 0, 0, 0, 0, 0, 0, 0, 13, 0, 0, 0, 71, 0, 0, 0, 78, 0, 0, 0, 90, 0, 0, 0, 145, 0, 0, 0, 145, 0, 0, 0, 145, 0, 0, 0, 145, 0, 0, 0, 95, 0, 0, 0, 103, 0, 0, 0, 111, 0, 0, 0, 116, 0, 0, 0, 123, 0, 0, 0, 129, 0, 0, 0, 135]
abbrev dktX2_count_1 : List UInt8 := dkwX2_count_1 ++ dktX2_count_2
def dkwX2_count_0 : List UInt8 := [42, 42, 180, 0, 156, 27, 3, 16, 13, 184, 0, 77, 182, 0, 193, 154, 0, 5, 3, 172, 27]
abbrev dktX2_count_0 : List UInt8 := dkwX2_count_0 ++ dktX2_count_1
theorem dksX2_count_0 : cX2_count.data.toList.drop 0 = dktX2_count_0 := by decide +kernel
theorem dksX2_count_1 : cX2_count.data.toList.drop 21 = dktX2_count_1 := dk_seg dksX2_count_0 21 rfl rfl
theorem dksX2_count_2 : cX2_count.data.toList.drop 92 = dktX2_count_2 := dk_seg dksX2_count_1 71 rfl rfl
theorem dksX2_count_3 : cX2_count.data.toList.drop 116 = dktX2_count_3 := dk_seg dksX2_count_2 24 rfl rfl
theorem dksX2_count_4 : cX2_count.data.toList.drop 138 = dktX2_count_4 := dk_seg dksX2_count_3 22 rfl rfl
theorem dksX2_count_5 : cX2_count.data.toList.drop 162 = dktX2_count_5 := dk_seg dksX2_count_4 24 rfl rfl
theorem dX2_count_0 : decode cX2_count 0 = .ok (.aload_n 0, 1) := dk_42 (dk_at dksX2_count_0 0 rfl rfl)
theorem dX2_count_1 : decode cX2_count 1 = .ok (.aload_n 0, 1) := dk_42 (dk_at dksX2_count_0 1 rfl rfl)
theorem dX2_count_2 : decode cX2_count 2 = .ok (.getfield 156, 3) := dk_180 0 156 (dk_at dksX2_count_0 2 rfl rfl)
theorem dX2_count_5 : decode cX2_count 5 = .ok (.iload_n 1, 1) := dk_27 (dk_at dksX2_count_0 5 rfl rfl)
theorem dX2_count_6 : decode cX2_count 6 = .ok (.iconst 0, 1) := dk_3 (dk_at dksX2_count_0 6 rfl rfl)
theorem dX2_count_7 : decode cX2_count 7 = .ok (.bipush 13, 2) := dk_16 13 (dk_at dksX2_count_0 7 rfl rfl)
theorem dX2_count_9 : decode cX2_count 9 = .ok (.invokestatic 77, 3) := dk_184 0 77 (dk_at dksX2_count_0 9 rfl rfl)
theorem dX2_count_12 : decode cX2_count 12 = .ok (.invokevirtual 193, 3) := dk_182 0 193 (dk_at dksX2_count_0 12 rfl rfl)
theorem dX2_count_15 : decode cX2_count 15 = .ok (.ifCond .ne 5, 3) := dk_154 0 5 (dk_at dksX2_count_0 15 rfl rfl)
theorem dX2_count_18 : decode cX2_count 18 = .ok (.iconst 0, 1) := dk_3 (dk_at dksX2_count_0 18 rfl rfl)
theorem dX2_count_19 : decode cX2_count 19 = .ok (.ireturn, 1) := dk_172 (dk_at dksX2_count_0 19 rfl rfl)
theorem dX2_count_20 : decode cX2_count 20 = .ok (.iload_n 1, 1) := dk_27 (dk_at dksX2_count_0 20 rfl rfl)
theorem dX2_count_21 : decode cX2_count 21 = .ok (.tableswitch 145 0 13 #[71, 78, 90, 145, 145, 145, 145, 95, 103, 111, 116, 123, 129, 135], 71) := by decide +kernel
theorem dX2_count_92 : decode cX2_count 92 = .ok (.aload_n 0, 1) := dk_42 (dk_at dksX2_count_2 0 rfl rfl)
theorem dX2_count_93 : decode cX2_count 93 = .ok (.getfield 9, 3) := dk_180 0 9 (dk_at dksX2_count_2 1 rfl rfl)
theorem dX2_count_96 : decode cX2_count 96 = .ok (.iconst 0, 1) := dk_3 (dk_at dksX2_count_2 4 rfl rfl)
theorem dX2_count_97 : decode cX2_count 97 = .ok (.iaload, 1) := dk_46 (dk_at dksX2_count_2 5 rfl rfl)
theorem dX2_count_98 : decode cX2_count 98 = .ok (.ireturn, 1) := dk_172 (dk_at dksX2_count_2 6 rfl rfl)
theorem dX2_count_99 : decode cX2_count 99 = .ok (.aload_n 0, 1) := dk_42 (dk_at dksX2_count_2 7 rfl rfl)
theorem dX2_count_100 : decode cX2_count 100 = .ok (.getfield 9, 3) := dk_180 0 9 (dk_at dksX2_count_2 8 rfl rfl)
theorem dX2_count_103 : decode cX2_count 103 = .ok (.iconst 0, 1) := dk_3 (dk_at dksX2_count_2 11 rfl rfl)
theorem dX2_count_104 : decode cX2_count 104 = .ok (.iaload, 1) := dk_46 (dk_at dksX2_count_2 12 rfl rfl)
theorem dX2_count_105 : decode cX2_count 105 = .ok (.aload_n 0, 1) := dk_42 (dk_at dksX2_count_2 13 rfl rfl)
theorem dX2_count_106 : decode cX2_count 106 = .ok (.invokevirtual 197, 3) := dk_182 0 197 (dk_at dksX2_count_2 14 rfl rfl)
theorem dX2_count_109 : decode cX2_count 109 = .ok (.isub, 1) := dk_100 (dk_at dksX2_count_2 17 rfl rfl)
theorem dX2_count_110 : decode cX2_count 110 = .ok (.ireturn, 1) := dk_172 (dk_at dksX2_count_2 18 rfl rfl)
theorem dX2_count_111 : decode cX2_count 111 = .ok (.aload_n 0, 1) := dk_42 (dk_at dksX2_count_2 19 rfl rfl)
theorem dX2_count_112 : decode cX2_count 112 = .ok (.invokevirtual 197, 3) := dk_182 0 197 (dk_at dksX2_count_2 20 rfl rfl)
theorem dX2_count_115 : decode cX2_count 115 = .ok (.ireturn, 1) := dk_172 (dk_at dksX2_count_2 23 rfl rfl)
theorem dX2_count_116 : decode cX2_count 116 = .ok (.aload_n 0, 1) := dk_42 (dk_at dksX2_count_3 0 rfl rfl)
theorem dX2_count_117 : decode cX2_count 117 = .ok (.iconst 0, 1) := dk_3 (dk_at dksX2_count_3 1 rfl rfl)
theorem dX2_count_118 : decode cX2_count 118 = .ok (.iconst 0, 1) := dk_3 (dk_at dksX2_count_3 2 rfl rfl)
theorem dX2_count_119 : decode cX2_count 119 = .ok (.iconst 0, 1) := dk_3 (dk_at dksX2_count_3 3 rfl rfl)
theorem dX2_count_120 : decode cX2_count 120 = .ok (.invokevirtual 200, 3) := dk_182 0 200 (dk_at dksX2_count_3 4 rfl rfl)
theorem dX2_count_123 : decode cX2_count 123 = .ok (.ireturn, 1) := dk_172 (dk_at dksX2_count_3 7 rfl rfl)
theorem dX2_count_124 : decode cX2_count 124 = .ok (.aload_n 0, 1) := dk_42 (dk_at dksX2_count_3 8 rfl rfl)
theorem dX2_count_125 : decode cX2_count 125 = .ok (.iconst 0, 1) := dk_3 (dk_at dksX2_count_3 9 rfl rfl)
theorem dX2_count_126 : decode cX2_count 126 = .ok (.iconst 0, 1) := dk_3 (dk_at dksX2_count_3 10 rfl rfl)
theorem dX2_count_127 : decode cX2_count 127 = .ok (.iconst 1, 1) := dk_4 (dk_at dksX2_count_3 11 rfl rfl)
theorem dX2_count_128 : decode cX2_count 128 = .ok (.invokevirtual 200, 3) := dk_182 0 200 (dk_at dksX2_count_3 12 rfl rfl)
theorem dX2_count_131 : decode cX2_count 131 = .ok (.ireturn, 1) := dk_172 (dk_at dksX2_count_3 15 rfl rfl)
theorem dX2_count_132 : decode cX2_count 132 = .ok (.aload_n 0, 1) := dk_42 (dk_at dksX2_count_3 16 rfl rfl)
theorem dX2_count_133 : decode cX2_count 133 = .ok (.invokevirtual 204, 3) := dk_182 0 204 (dk_at dksX2_count_3 17 rfl rfl)
theorem dX2_count_136 : decode cX2_count 136 = .ok (.ireturn, 1) := dk_172 (dk_at dksX2_count_3 20 rfl rfl)
theorem dX2_count_137 : decode cX2_count 137 = .ok (.aload_n 0, 1) := dk_42 (dk_at dksX2_count_3 21 rfl rfl)
theorem dX2_count_138 : decode cX2_count 138 = .ok (.getfield 9, 3) := dk_180 0 9 (dk_at dksX2_count_4 0 rfl rfl)
theorem dX2_count_141 : decode cX2_count 141 = .ok (.iconst 1, 1) := dk_4 (dk_at dksX2_count_4 3 rfl rfl)
theorem dX2_count_142 : decode cX2_count 142 = .ok (.iaload, 1) := dk_46 (dk_at dksX2_count_4 4 rfl rfl)
theorem dX2_count_143 : decode cX2_count 143 = .ok (.ireturn, 1) := dk_172 (dk_at dksX2_count_4 5 rfl rfl)
theorem dX2_count_144 : decode cX2_count 144 = .ok (.aload_n 0, 1) := dk_42 (dk_at dksX2_count_4 6 rfl rfl)
theorem dX2_count_145 : decode cX2_count 145 = .ok (.iconst 0, 1) := dk_3 (dk_at dksX2_count_4 7 rfl rfl)
theorem dX2_count_146 : decode cX2_count 146 = .ok (.invokevirtual 207, 3) := dk_182 0 207 (dk_at dksX2_count_4 8 rfl rfl)
theorem dX2_count_149 : decode cX2_count 149 = .ok (.ireturn, 1) := dk_172 (dk_at dksX2_count_4 11 rfl rfl)
theorem dX2_count_150 : decode cX2_count 150 = .ok (.aload_n 0, 1) := dk_42 (dk_at dksX2_count_4 12 rfl rfl)
theorem dX2_count_151 : decode cX2_count 151 = .ok (.iconst 1, 1) := dk_4 (dk_at dksX2_count_4 13 rfl rfl)
theorem dX2_count_152 : decode cX2_count 152 = .ok (.invokevirtual 207, 3) := dk_182 0 207 (dk_at dksX2_count_4 14 rfl rfl)
theorem dX2_count_155 : decode cX2_count 155 = .ok (.ireturn, 1) := dk_172 (dk_at dksX2_count_4 17 rfl rfl)
theorem dX2_count_156 : decode cX2_count 156 = .ok (.aload_n 0, 1) := dk_42 (dk_at dksX2_count_4 18 rfl rfl)
theorem dX2_count_157 : decode cX2_count 157 = .ok (.getfield 9, 3) := dk_180 0 9 (dk_at dksX2_count_4 19 rfl rfl)
theorem dX2_count_160 : decode cX2_count 160 = .ok (.iconst 3, 1) := dk_6 (dk_at dksX2_count_4 22 rfl rfl)
theorem dX2_count_161 : decode cX2_count 161 = .ok (.iaload, 1) := dk_46 (dk_at dksX2_count_4 23 rfl rfl)
theorem dX2_count_162 : decode cX2_count 162 = .ok (.invokestatic 174, 3) := dk_184 0 174 (dk_at dksX2_count_5 0 rfl rfl)
theorem dX2_count_165 : decode cX2_count 165 = .ok (.ireturn, 1) := dk_172 (dk_at dksX2_count_5 3 rfl rfl)
theorem dX2_count_166 : decode cX2_count 166 = .ok (.aload_n 0, 1) := dk_42 (dk_at dksX2_count_5 4 rfl rfl)
theorem dX2_count_167 : decode cX2_count 167 = .ok (.getfield 9, 3) := dk_180 0 9 (dk_at dksX2_count_5 5 rfl rfl)
theorem dX2_count_170 : decode cX2_count 170 = .ok (.iload_n 1, 1) := dk_27 (dk_at dksX2_count_5 8 rfl rfl)
theorem dX2_count_171 : decode cX2_count 171 = .ok (.iaload, 1) := dk_46 (dk_at dksX2_count_5 9 rfl rfl)
theorem dX2_count_172 : decode cX2_count 172 = .ok (.ireturn, 1) := dk_172 (dk_at dksX2_count_5 10 rfl rfl)
abbrev cX2_isBody : ByteArray := prog_10_method_26_code
def yX2_isBody : MethodName := ⟨RX2, "isBody", "(I)Z"⟩
def dkwX2_isBody_0 : List UInt8 := [27, 3, 42, 180, 0, 9, 3, 46, 4, 100, 184, 0, 77, 172]
abbrev dktX2_isBody_0 : List UInt8 := dkwX2_isBody_0 ++ []
theorem dksX2_isBody_0 : cX2_isBody.data.toList.drop 0 = dktX2_isBody_0 := by decide +kernel
theorem dX2_isBody_0 : decode cX2_isBody 0 = .ok (.iload_n 1, 1) := dk_27 (dk_at dksX2_isBody_0 0 rfl rfl)
theorem dX2_isBody_1 : decode cX2_isBody 1 = .ok (.iconst 0, 1) := dk_3 (dk_at dksX2_isBody_0 1 rfl rfl)
theorem dX2_isBody_2 : decode cX2_isBody 2 = .ok (.aload_n 0, 1) := dk_42 (dk_at dksX2_isBody_0 2 rfl rfl)
theorem dX2_isBody_3 : decode cX2_isBody 3 = .ok (.getfield 9, 3) := dk_180 0 9 (dk_at dksX2_isBody_0 3 rfl rfl)
theorem dX2_isBody_6 : decode cX2_isBody 6 = .ok (.iconst 0, 1) := dk_3 (dk_at dksX2_isBody_0 6 rfl rfl)
theorem dX2_isBody_7 : decode cX2_isBody 7 = .ok (.iaload, 1) := dk_46 (dk_at dksX2_isBody_0 7 rfl rfl)
theorem dX2_isBody_8 : decode cX2_isBody 8 = .ok (.iconst 1, 1) := dk_4 (dk_at dksX2_isBody_0 8 rfl rfl)
theorem dX2_isBody_9 : decode cX2_isBody 9 = .ok (.isub, 1) := dk_100 (dk_at dksX2_isBody_0 9 rfl rfl)
theorem dX2_isBody_10 : decode cX2_isBody 10 = .ok (.invokestatic 77, 3) := dk_184 0 77 (dk_at dksX2_isBody_0 10 rfl rfl)
theorem dX2_isBody_13 : decode cX2_isBody 13 = .ok (.ireturn, 1) := dk_172 (dk_at dksX2_isBody_0 13 rfl rfl)
abbrev cX2_body : ByteArray := prog_10_method_43_code
def yX2_body : MethodName := ⟨RX2, "body", "(II)I"⟩
def dkwX2_body_2 : List UInt8 := [46, 42, 27, 3, 182, 0, 163, 184, 0, 178, 167, 0, 9, 42, 27, 6, 182, 0, 163, 172]
abbrev dktX2_body_2 : List UInt8 := dkwX2_body_2 ++ []
def dkwX2_body_1 : List UInt8 := [28, 6, 162, 0, 12, 42, 27, 28, 182, 0, 163, 167, 0, 32, 28, 6, 160, 0, 21, 42, 180, 0, 9, 6]
abbrev dktX2_body_1 : List UInt8 := dkwX2_body_1 ++ dktX2_body_2
def dkwX2_body_0 : List UInt8 := [42, 42, 180, 0, 156, 42, 27, 182, 0, 210, 28, 3, 7, 184, 0, 77, 182, 0, 60, 154, 0, 5, 3, 172]
abbrev dktX2_body_0 : List UInt8 := dkwX2_body_0 ++ dktX2_body_1
theorem dksX2_body_0 : cX2_body.data.toList.drop 0 = dktX2_body_0 := by decide +kernel
theorem dksX2_body_1 : cX2_body.data.toList.drop 24 = dktX2_body_1 := dk_seg dksX2_body_0 24 rfl rfl
theorem dksX2_body_2 : cX2_body.data.toList.drop 48 = dktX2_body_2 := dk_seg dksX2_body_1 24 rfl rfl
theorem dX2_body_0 : decode cX2_body 0 = .ok (.aload_n 0, 1) := dk_42 (dk_at dksX2_body_0 0 rfl rfl)
theorem dX2_body_1 : decode cX2_body 1 = .ok (.aload_n 0, 1) := dk_42 (dk_at dksX2_body_0 1 rfl rfl)
theorem dX2_body_2 : decode cX2_body 2 = .ok (.getfield 156, 3) := dk_180 0 156 (dk_at dksX2_body_0 2 rfl rfl)
theorem dX2_body_5 : decode cX2_body 5 = .ok (.aload_n 0, 1) := dk_42 (dk_at dksX2_body_0 5 rfl rfl)
theorem dX2_body_6 : decode cX2_body 6 = .ok (.iload_n 1, 1) := dk_27 (dk_at dksX2_body_0 6 rfl rfl)
theorem dX2_body_7 : decode cX2_body 7 = .ok (.invokevirtual 210, 3) := dk_182 0 210 (dk_at dksX2_body_0 7 rfl rfl)
theorem dX2_body_10 : decode cX2_body 10 = .ok (.iload_n 2, 1) := dk_28 (dk_at dksX2_body_0 10 rfl rfl)
theorem dX2_body_11 : decode cX2_body 11 = .ok (.iconst 0, 1) := dk_3 (dk_at dksX2_body_0 11 rfl rfl)
theorem dX2_body_12 : decode cX2_body 12 = .ok (.iconst 4, 1) := dk_7 (dk_at dksX2_body_0 12 rfl rfl)
theorem dX2_body_13 : decode cX2_body 13 = .ok (.invokestatic 77, 3) := dk_184 0 77 (dk_at dksX2_body_0 13 rfl rfl)
theorem dX2_body_16 : decode cX2_body 16 = .ok (.invokevirtual 60, 3) := dk_182 0 60 (dk_at dksX2_body_0 16 rfl rfl)
theorem dX2_body_19 : decode cX2_body 19 = .ok (.ifCond .ne 5, 3) := dk_154 0 5 (dk_at dksX2_body_0 19 rfl rfl)
theorem dX2_body_22 : decode cX2_body 22 = .ok (.iconst 0, 1) := dk_3 (dk_at dksX2_body_0 22 rfl rfl)
theorem dX2_body_23 : decode cX2_body 23 = .ok (.ireturn, 1) := dk_172 (dk_at dksX2_body_0 23 rfl rfl)
theorem dX2_body_24 : decode cX2_body 24 = .ok (.iload_n 2, 1) := dk_28 (dk_at dksX2_body_1 0 rfl rfl)
theorem dX2_body_25 : decode cX2_body 25 = .ok (.iconst 3, 1) := dk_6 (dk_at dksX2_body_1 1 rfl rfl)
theorem dX2_body_26 : decode cX2_body 26 = .ok (.if_icmp .ge 12, 3) := dk_162 0 12 (dk_at dksX2_body_1 2 rfl rfl)
theorem dX2_body_29 : decode cX2_body 29 = .ok (.aload_n 0, 1) := dk_42 (dk_at dksX2_body_1 5 rfl rfl)
theorem dX2_body_30 : decode cX2_body 30 = .ok (.iload_n 1, 1) := dk_27 (dk_at dksX2_body_1 6 rfl rfl)
theorem dX2_body_31 : decode cX2_body 31 = .ok (.iload_n 2, 1) := dk_28 (dk_at dksX2_body_1 7 rfl rfl)
theorem dX2_body_32 : decode cX2_body 32 = .ok (.invokevirtual 163, 3) := dk_182 0 163 (dk_at dksX2_body_1 8 rfl rfl)
theorem dX2_body_35 : decode cX2_body 35 = .ok (.goto 32, 3) := dk_167 0 32 (dk_at dksX2_body_1 11 rfl rfl)
theorem dX2_body_38 : decode cX2_body 38 = .ok (.iload_n 2, 1) := dk_28 (dk_at dksX2_body_1 14 rfl rfl)
theorem dX2_body_39 : decode cX2_body 39 = .ok (.iconst 3, 1) := dk_6 (dk_at dksX2_body_1 15 rfl rfl)
theorem dX2_body_40 : decode cX2_body 40 = .ok (.if_icmp .ne 21, 3) := dk_160 0 21 (dk_at dksX2_body_1 16 rfl rfl)
theorem dX2_body_43 : decode cX2_body 43 = .ok (.aload_n 0, 1) := dk_42 (dk_at dksX2_body_1 19 rfl rfl)
theorem dX2_body_44 : decode cX2_body 44 = .ok (.getfield 9, 3) := dk_180 0 9 (dk_at dksX2_body_1 20 rfl rfl)
theorem dX2_body_47 : decode cX2_body 47 = .ok (.iconst 3, 1) := dk_6 (dk_at dksX2_body_1 23 rfl rfl)
theorem dX2_body_48 : decode cX2_body 48 = .ok (.iaload, 1) := dk_46 (dk_at dksX2_body_2 0 rfl rfl)
theorem dX2_body_49 : decode cX2_body 49 = .ok (.aload_n 0, 1) := dk_42 (dk_at dksX2_body_2 1 rfl rfl)
theorem dX2_body_50 : decode cX2_body 50 = .ok (.iload_n 1, 1) := dk_27 (dk_at dksX2_body_2 2 rfl rfl)
theorem dX2_body_51 : decode cX2_body 51 = .ok (.iconst 0, 1) := dk_3 (dk_at dksX2_body_2 3 rfl rfl)
theorem dX2_body_52 : decode cX2_body 52 = .ok (.invokevirtual 163, 3) := dk_182 0 163 (dk_at dksX2_body_2 4 rfl rfl)
theorem dX2_body_55 : decode cX2_body 55 = .ok (.invokestatic 178, 3) := dk_184 0 178 (dk_at dksX2_body_2 7 rfl rfl)
theorem dX2_body_58 : decode cX2_body 58 = .ok (.goto 9, 3) := dk_167 0 9 (dk_at dksX2_body_2 10 rfl rfl)
theorem dX2_body_61 : decode cX2_body 61 = .ok (.aload_n 0, 1) := dk_42 (dk_at dksX2_body_2 13 rfl rfl)
theorem dX2_body_62 : decode cX2_body 62 = .ok (.iload_n 1, 1) := dk_27 (dk_at dksX2_body_2 14 rfl rfl)
theorem dX2_body_63 : decode cX2_body 63 = .ok (.iconst 3, 1) := dk_6 (dk_at dksX2_body_2 15 rfl rfl)
theorem dX2_body_64 : decode cX2_body 64 = .ok (.invokevirtual 163, 3) := dk_182 0 163 (dk_at dksX2_body_2 16 rfl rfl)
theorem dX2_body_67 : decode cX2_body 67 = .ok (.ireturn, 1) := dk_172 (dk_at dksX2_body_2 19 rfl rfl)
abbrev cX2_isPoint : ByteArray := prog_10_method_27_code
def yX2_isPoint : MethodName := ⟨RX2, "isPoint", "(I)Z"⟩
def dkwX2_isPoint_0 : List UInt8 := [26, 3, 17, 0, 255, 184, 0, 77, 172]
abbrev dktX2_isPoint_0 : List UInt8 := dkwX2_isPoint_0 ++ []
theorem dksX2_isPoint_0 : cX2_isPoint.data.toList.drop 0 = dktX2_isPoint_0 := by decide +kernel
theorem dX2_isPoint_0 : decode cX2_isPoint 0 = .ok (.iload_n 0, 1) := dk_26 (dk_at dksX2_isPoint_0 0 rfl rfl)
theorem dX2_isPoint_1 : decode cX2_isPoint 1 = .ok (.iconst 0, 1) := dk_3 (dk_at dksX2_isPoint_0 1 rfl rfl)
theorem dX2_isPoint_2 : decode cX2_isPoint 2 = .ok (.sipush 255, 3) := dk_17 0 255 (dk_at dksX2_isPoint_0 2 rfl rfl)
theorem dX2_isPoint_5 : decode cX2_isPoint 5 = .ok (.invokestatic 77, 3) := dk_184 0 77 (dk_at dksX2_isPoint_0 5 rfl rfl)
theorem dX2_isPoint_8 : decode cX2_isPoint 8 = .ok (.ireturn, 1) := dk_172 (dk_at dksX2_isPoint_0 8 rfl rfl)
abbrev cX2_mayPoint : ByteArray := prog_10_method_44_code
def yX2_mayPoint : MethodName := ⟨RX2, "mayPoint", "(I)Z"⟩
def dkwX2_mayPoint_0 : List UInt8 := [42, 42, 180, 0, 156, 27, 184, 0, 213, 182, 0, 193, 172]
abbrev dktX2_mayPoint_0 : List UInt8 := dkwX2_mayPoint_0 ++ []
theorem dksX2_mayPoint_0 : cX2_mayPoint.data.toList.drop 0 = dktX2_mayPoint_0 := by decide +kernel
theorem dX2_mayPoint_0 : decode cX2_mayPoint 0 = .ok (.aload_n 0, 1) := dk_42 (dk_at dksX2_mayPoint_0 0 rfl rfl)
theorem dX2_mayPoint_1 : decode cX2_mayPoint 1 = .ok (.aload_n 0, 1) := dk_42 (dk_at dksX2_mayPoint_0 1 rfl rfl)
theorem dX2_mayPoint_2 : decode cX2_mayPoint 2 = .ok (.getfield 156, 3) := dk_180 0 156 (dk_at dksX2_mayPoint_0 2 rfl rfl)
theorem dX2_mayPoint_5 : decode cX2_mayPoint 5 = .ok (.iload_n 1, 1) := dk_27 (dk_at dksX2_mayPoint_0 5 rfl rfl)
theorem dX2_mayPoint_6 : decode cX2_mayPoint 6 = .ok (.invokestatic 213, 3) := dk_184 0 213 (dk_at dksX2_mayPoint_0 6 rfl rfl)
theorem dX2_mayPoint_9 : decode cX2_mayPoint 9 = .ok (.invokevirtual 193, 3) := dk_182 0 193 (dk_at dksX2_mayPoint_0 9 rfl rfl)
theorem dX2_mayPoint_12 : decode cX2_mayPoint 12 = .ok (.ireturn, 1) := dk_172 (dk_at dksX2_mayPoint_0 12 rfl rfl)
abbrev cX2_firstAt : ByteArray := prog_10_method_45_code
def yX2_firstAt : MethodName := ⟨RX2, "firstAt", "(I)I"⟩
def dkwX2_firstAt_1 : List UInt8 := [132, 2, 1, 167, 255, 231, 2, 172]
abbrev dktX2_firstAt_1 : List UInt8 := dkwX2_firstAt_1 ++ []
def dkwX2_firstAt_0 : List UInt8 := [3, 61, 28, 42, 180, 0, 9, 3, 46, 162, 0, 21, 42, 28, 3, 182, 0, 163, 27, 160, 0, 5, 28, 172]
abbrev dktX2_firstAt_0 : List UInt8 := dkwX2_firstAt_0 ++ dktX2_firstAt_1
theorem dksX2_firstAt_0 : cX2_firstAt.data.toList.drop 0 = dktX2_firstAt_0 := by decide +kernel
theorem dksX2_firstAt_1 : cX2_firstAt.data.toList.drop 24 = dktX2_firstAt_1 := dk_seg dksX2_firstAt_0 24 rfl rfl
theorem dX2_firstAt_0 : decode cX2_firstAt 0 = .ok (.iconst 0, 1) := dk_3 (dk_at dksX2_firstAt_0 0 rfl rfl)
theorem dX2_firstAt_1 : decode cX2_firstAt 1 = .ok (.istore_n 2, 1) := dk_61 (dk_at dksX2_firstAt_0 1 rfl rfl)
theorem dX2_firstAt_2 : decode cX2_firstAt 2 = .ok (.iload_n 2, 1) := dk_28 (dk_at dksX2_firstAt_0 2 rfl rfl)
theorem dX2_firstAt_3 : decode cX2_firstAt 3 = .ok (.aload_n 0, 1) := dk_42 (dk_at dksX2_firstAt_0 3 rfl rfl)
theorem dX2_firstAt_4 : decode cX2_firstAt 4 = .ok (.getfield 9, 3) := dk_180 0 9 (dk_at dksX2_firstAt_0 4 rfl rfl)
theorem dX2_firstAt_7 : decode cX2_firstAt 7 = .ok (.iconst 0, 1) := dk_3 (dk_at dksX2_firstAt_0 7 rfl rfl)
theorem dX2_firstAt_8 : decode cX2_firstAt 8 = .ok (.iaload, 1) := dk_46 (dk_at dksX2_firstAt_0 8 rfl rfl)
theorem dX2_firstAt_9 : decode cX2_firstAt 9 = .ok (.if_icmp .ge 21, 3) := dk_162 0 21 (dk_at dksX2_firstAt_0 9 rfl rfl)
theorem dX2_firstAt_12 : decode cX2_firstAt 12 = .ok (.aload_n 0, 1) := dk_42 (dk_at dksX2_firstAt_0 12 rfl rfl)
theorem dX2_firstAt_13 : decode cX2_firstAt 13 = .ok (.iload_n 2, 1) := dk_28 (dk_at dksX2_firstAt_0 13 rfl rfl)
theorem dX2_firstAt_14 : decode cX2_firstAt 14 = .ok (.iconst 0, 1) := dk_3 (dk_at dksX2_firstAt_0 14 rfl rfl)
theorem dX2_firstAt_15 : decode cX2_firstAt 15 = .ok (.invokevirtual 163, 3) := dk_182 0 163 (dk_at dksX2_firstAt_0 15 rfl rfl)
theorem dX2_firstAt_18 : decode cX2_firstAt 18 = .ok (.iload_n 1, 1) := dk_27 (dk_at dksX2_firstAt_0 18 rfl rfl)
theorem dX2_firstAt_19 : decode cX2_firstAt 19 = .ok (.if_icmp .ne 5, 3) := dk_160 0 5 (dk_at dksX2_firstAt_0 19 rfl rfl)
theorem dX2_firstAt_22 : decode cX2_firstAt 22 = .ok (.iload_n 2, 1) := dk_28 (dk_at dksX2_firstAt_0 22 rfl rfl)
theorem dX2_firstAt_23 : decode cX2_firstAt 23 = .ok (.ireturn, 1) := dk_172 (dk_at dksX2_firstAt_0 23 rfl rfl)
theorem dX2_firstAt_24 : decode cX2_firstAt 24 = .ok (.iinc 2 1, 3) := dk_132 2 1 (dk_at dksX2_firstAt_1 0 rfl rfl)
theorem dX2_firstAt_27 : decode cX2_firstAt 27 = .ok (.goto (-25), 3) := dk_167 255 231 (dk_at dksX2_firstAt_1 3 rfl rfl)
theorem dX2_firstAt_30 : decode cX2_firstAt 30 = .ok (.iconst (-1), 1) := dk_2 (dk_at dksX2_firstAt_1 6 rfl rfl)
theorem dX2_firstAt_31 : decode cX2_firstAt 31 = .ok (.ireturn, 1) := dk_172 (dk_at dksX2_firstAt_1 7 rfl rfl)
abbrev cX2_bodyAt : ByteArray := prog_10_method_46_code
def yX2_bodyAt : MethodName := ⟨RX2, "bodyAt", "(I)I"⟩
def dkwX2_bodyAt_0 : List UInt8 := [42, 27, 182, 0, 216, 153, 0, 11, 42, 27, 182, 0, 219, 167, 0, 4, 3, 172]
abbrev dktX2_bodyAt_0 : List UInt8 := dkwX2_bodyAt_0 ++ []
theorem dksX2_bodyAt_0 : cX2_bodyAt.data.toList.drop 0 = dktX2_bodyAt_0 := by decide +kernel
theorem dX2_bodyAt_0 : decode cX2_bodyAt 0 = .ok (.aload_n 0, 1) := dk_42 (dk_at dksX2_bodyAt_0 0 rfl rfl)
theorem dX2_bodyAt_1 : decode cX2_bodyAt 1 = .ok (.iload_n 1, 1) := dk_27 (dk_at dksX2_bodyAt_0 1 rfl rfl)
theorem dX2_bodyAt_2 : decode cX2_bodyAt 2 = .ok (.invokevirtual 216, 3) := dk_182 0 216 (dk_at dksX2_bodyAt_0 2 rfl rfl)
theorem dX2_bodyAt_5 : decode cX2_bodyAt 5 = .ok (.ifCond .eq 11, 3) := dk_153 0 11 (dk_at dksX2_bodyAt_0 5 rfl rfl)
theorem dX2_bodyAt_8 : decode cX2_bodyAt 8 = .ok (.aload_n 0, 1) := dk_42 (dk_at dksX2_bodyAt_0 8 rfl rfl)
theorem dX2_bodyAt_9 : decode cX2_bodyAt 9 = .ok (.iload_n 1, 1) := dk_27 (dk_at dksX2_bodyAt_0 9 rfl rfl)
theorem dX2_bodyAt_10 : decode cX2_bodyAt 10 = .ok (.invokevirtual 219, 3) := dk_182 0 219 (dk_at dksX2_bodyAt_0 10 rfl rfl)
theorem dX2_bodyAt_13 : decode cX2_bodyAt 13 = .ok (.goto 4, 3) := dk_167 0 4 (dk_at dksX2_bodyAt_0 13 rfl rfl)
theorem dX2_bodyAt_16 : decode cX2_bodyAt 16 = .ok (.iconst 0, 1) := dk_3 (dk_at dksX2_bodyAt_0 16 rfl rfl)
theorem dX2_bodyAt_17 : decode cX2_bodyAt 17 = .ok (.ireturn, 1) := dk_172 (dk_at dksX2_bodyAt_0 17 rfl rfl)
abbrev cX2_isLevel : ByteArray := prog_10_method_34_code
def yX2_isLevel : MethodName := ⟨RX2, "isLevel", "(I)Z"⟩
def dkwX2_isLevel_0 : List UInt8 := [27, 3, 42, 180, 0, 9, 6, 46, 184, 0, 77, 172]
abbrev dktX2_isLevel_0 : List UInt8 := dkwX2_isLevel_0 ++ []
theorem dksX2_isLevel_0 : cX2_isLevel.data.toList.drop 0 = dktX2_isLevel_0 := by decide +kernel
theorem dX2_isLevel_0 : decode cX2_isLevel 0 = .ok (.iload_n 1, 1) := dk_27 (dk_at dksX2_isLevel_0 0 rfl rfl)
theorem dX2_isLevel_1 : decode cX2_isLevel 1 = .ok (.iconst 0, 1) := dk_3 (dk_at dksX2_isLevel_0 1 rfl rfl)
theorem dX2_isLevel_2 : decode cX2_isLevel 2 = .ok (.aload_n 0, 1) := dk_42 (dk_at dksX2_isLevel_0 2 rfl rfl)
theorem dX2_isLevel_3 : decode cX2_isLevel 3 = .ok (.getfield 9, 3) := dk_180 0 9 (dk_at dksX2_isLevel_0 3 rfl rfl)
theorem dX2_isLevel_6 : decode cX2_isLevel 6 = .ok (.iconst 3, 1) := dk_6 (dk_at dksX2_isLevel_0 6 rfl rfl)
theorem dX2_isLevel_7 : decode cX2_isLevel 7 = .ok (.iaload, 1) := dk_46 (dk_at dksX2_isLevel_0 7 rfl rfl)
theorem dX2_isLevel_8 : decode cX2_isLevel 8 = .ok (.invokestatic 77, 3) := dk_184 0 77 (dk_at dksX2_isLevel_0 8 rfl rfl)
theorem dX2_isLevel_11 : decode cX2_isLevel 11 = .ok (.ireturn, 1) := dk_172 (dk_at dksX2_isLevel_0 11 rfl rfl)
abbrev cX2_isBox : ByteArray := prog_10_method_35_code
def yX2_isBox : MethodName := ⟨RX2, "isBox", "(II)Z"⟩
def dkwX2_isBox_1 : List UInt8 := [167, 0, 4, 3, 172]
abbrev dktX2_isBox_1 : List UInt8 := dkwX2_isBox_1 ++ []
def dkwX2_isBox_0 : List UInt8 := [42, 27, 182, 0, 181, 153, 0, 20, 28, 3, 4, 27, 120, 4, 100, 184, 0, 77, 153, 0, 7, 4]
abbrev dktX2_isBox_0 : List UInt8 := dkwX2_isBox_0 ++ dktX2_isBox_1
theorem dksX2_isBox_0 : cX2_isBox.data.toList.drop 0 = dktX2_isBox_0 := by decide +kernel
theorem dksX2_isBox_1 : cX2_isBox.data.toList.drop 22 = dktX2_isBox_1 := dk_seg dksX2_isBox_0 22 rfl rfl
theorem dX2_isBox_0 : decode cX2_isBox 0 = .ok (.aload_n 0, 1) := dk_42 (dk_at dksX2_isBox_0 0 rfl rfl)
theorem dX2_isBox_1 : decode cX2_isBox 1 = .ok (.iload_n 1, 1) := dk_27 (dk_at dksX2_isBox_0 1 rfl rfl)
theorem dX2_isBox_2 : decode cX2_isBox 2 = .ok (.invokevirtual 181, 3) := dk_182 0 181 (dk_at dksX2_isBox_0 2 rfl rfl)
theorem dX2_isBox_5 : decode cX2_isBox 5 = .ok (.ifCond .eq 20, 3) := dk_153 0 20 (dk_at dksX2_isBox_0 5 rfl rfl)
theorem dX2_isBox_8 : decode cX2_isBox 8 = .ok (.iload_n 2, 1) := dk_28 (dk_at dksX2_isBox_0 8 rfl rfl)
theorem dX2_isBox_9 : decode cX2_isBox 9 = .ok (.iconst 0, 1) := dk_3 (dk_at dksX2_isBox_0 9 rfl rfl)
theorem dX2_isBox_10 : decode cX2_isBox 10 = .ok (.iconst 1, 1) := dk_4 (dk_at dksX2_isBox_0 10 rfl rfl)
theorem dX2_isBox_11 : decode cX2_isBox 11 = .ok (.iload_n 1, 1) := dk_27 (dk_at dksX2_isBox_0 11 rfl rfl)
theorem dX2_isBox_12 : decode cX2_isBox 12 = .ok (.ishl, 1) := dk_120 (dk_at dksX2_isBox_0 12 rfl rfl)
theorem dX2_isBox_13 : decode cX2_isBox 13 = .ok (.iconst 1, 1) := dk_4 (dk_at dksX2_isBox_0 13 rfl rfl)
theorem dX2_isBox_14 : decode cX2_isBox 14 = .ok (.isub, 1) := dk_100 (dk_at dksX2_isBox_0 14 rfl rfl)
theorem dX2_isBox_15 : decode cX2_isBox 15 = .ok (.invokestatic 77, 3) := dk_184 0 77 (dk_at dksX2_isBox_0 15 rfl rfl)
theorem dX2_isBox_18 : decode cX2_isBox 18 = .ok (.ifCond .eq 7, 3) := dk_153 0 7 (dk_at dksX2_isBox_0 18 rfl rfl)
theorem dX2_isBox_21 : decode cX2_isBox 21 = .ok (.iconst 1, 1) := dk_4 (dk_at dksX2_isBox_0 21 rfl rfl)
theorem dX2_isBox_22 : decode cX2_isBox 22 = .ok (.goto 4, 3) := dk_167 0 4 (dk_at dksX2_isBox_1 0 rfl rfl)
theorem dX2_isBox_25 : decode cX2_isBox 25 = .ok (.iconst 0, 1) := dk_3 (dk_at dksX2_isBox_1 3 rfl rfl)
theorem dX2_isBox_26 : decode cX2_isBox 26 = .ok (.ireturn, 1) := dk_172 (dk_at dksX2_isBox_1 4 rfl rfl)
abbrev cX2_centre : ByteArray := prog_10_method_32_code
def yX2_centre : MethodName := ⟨RX2, "centre", "(II)I"⟩
def dkwX2_centre_0 : List UInt8 := [27, 26, 184, 0, 174, 104, 26, 184, 0, 174, 5, 108, 96, 172]
abbrev dktX2_centre_0 : List UInt8 := dkwX2_centre_0 ++ []
theorem dksX2_centre_0 : cX2_centre.data.toList.drop 0 = dktX2_centre_0 := by decide +kernel
theorem dX2_centre_0 : decode cX2_centre 0 = .ok (.iload_n 1, 1) := dk_27 (dk_at dksX2_centre_0 0 rfl rfl)
theorem dX2_centre_1 : decode cX2_centre 1 = .ok (.iload_n 0, 1) := dk_26 (dk_at dksX2_centre_0 1 rfl rfl)
theorem dX2_centre_2 : decode cX2_centre 2 = .ok (.invokestatic 174, 3) := dk_184 0 174 (dk_at dksX2_centre_0 2 rfl rfl)
theorem dX2_centre_5 : decode cX2_centre 5 = .ok (.imul, 1) := dk_104 (dk_at dksX2_centre_0 5 rfl rfl)
theorem dX2_centre_6 : decode cX2_centre 6 = .ok (.iload_n 0, 1) := dk_26 (dk_at dksX2_centre_0 6 rfl rfl)
theorem dX2_centre_7 : decode cX2_centre 7 = .ok (.invokestatic 174, 3) := dk_184 0 174 (dk_at dksX2_centre_0 7 rfl rfl)
theorem dX2_centre_10 : decode cX2_centre 10 = .ok (.iconst 2, 1) := dk_5 (dk_at dksX2_centre_0 10 rfl rfl)
theorem dX2_centre_11 : decode cX2_centre 11 = .ok (.idiv, 1) := dk_108 (dk_at dksX2_centre_0 11 rfl rfl)
theorem dX2_centre_12 : decode cX2_centre 12 = .ok (.iadd, 1) := dk_96 (dk_at dksX2_centre_0 12 rfl rfl)
theorem dX2_centre_13 : decode cX2_centre 13 = .ok (.ireturn, 1) := dk_172 (dk_at dksX2_centre_0 13 rfl rfl)
abbrev cX2_box : ByteArray := prog_10_method_47_code
def yX2_box : MethodName := ⟨RX2, "box", "(III)I"⟩
def dkwX2_box_4 : List UInt8 := [172, 42, 27, 28, 29, 8, 160, 0, 7, 4, 167, 0, 4, 3, 182, 0, 200, 172]
abbrev dktX2_box_4 : List UInt8 := dkwX2_box_4 ++ []
def dkwX2_box_3 : List UInt8 := [28, 27, 184, 0, 174, 104, 172, 27, 184, 0, 174, 172, 27, 28, 184, 0, 226, 172, 42, 27, 28, 182, 0, 190]
abbrev dktX2_box_3 : List UInt8 := dkwX2_box_3 ++ dktX2_box_4
def dkwX2_box_2 : List UInt8 := [170, 0, 0, 0, 0, 55, 0, 0, 0, 0, 0, 0, 0, 3, 0, 0, 0, 30, 0, 0, 0, 37, 0, 0, 0, 42, 0, 0, 0, 48]
abbrev dktX2_box_2 : List UInt8 := dkwX2_box_2 ++ dktX2_box_3
def dkwX2_box_1 : List UInt8 := [172, 29]
abbrev dktX2_box_1 : List UInt8 := dkwX2_box_1 ++ dktX2_box_2
def dkwX2_box_0 : List UInt8 := [42, 42, 180, 0, 156, 42, 27, 28, 182, 0, 222, 29, 3, 8, 184, 0, 77, 182, 0, 60, 154, 0, 5, 3]
abbrev dktX2_box_0 : List UInt8 := dkwX2_box_0 ++ dktX2_box_1
theorem dksX2_box_0 : cX2_box.data.toList.drop 0 = dktX2_box_0 := by decide +kernel
theorem dksX2_box_1 : cX2_box.data.toList.drop 24 = dktX2_box_1 := dk_seg dksX2_box_0 24 rfl rfl
theorem dksX2_box_2 : cX2_box.data.toList.drop 26 = dktX2_box_2 := dk_seg dksX2_box_1 2 rfl rfl
theorem dksX2_box_3 : cX2_box.data.toList.drop 56 = dktX2_box_3 := dk_seg dksX2_box_2 30 rfl rfl
theorem dksX2_box_4 : cX2_box.data.toList.drop 80 = dktX2_box_4 := dk_seg dksX2_box_3 24 rfl rfl
theorem dX2_box_0 : decode cX2_box 0 = .ok (.aload_n 0, 1) := dk_42 (dk_at dksX2_box_0 0 rfl rfl)
theorem dX2_box_1 : decode cX2_box 1 = .ok (.aload_n 0, 1) := dk_42 (dk_at dksX2_box_0 1 rfl rfl)
theorem dX2_box_2 : decode cX2_box 2 = .ok (.getfield 156, 3) := dk_180 0 156 (dk_at dksX2_box_0 2 rfl rfl)
theorem dX2_box_5 : decode cX2_box 5 = .ok (.aload_n 0, 1) := dk_42 (dk_at dksX2_box_0 5 rfl rfl)
theorem dX2_box_6 : decode cX2_box 6 = .ok (.iload_n 1, 1) := dk_27 (dk_at dksX2_box_0 6 rfl rfl)
theorem dX2_box_7 : decode cX2_box 7 = .ok (.iload_n 2, 1) := dk_28 (dk_at dksX2_box_0 7 rfl rfl)
theorem dX2_box_8 : decode cX2_box 8 = .ok (.invokevirtual 222, 3) := dk_182 0 222 (dk_at dksX2_box_0 8 rfl rfl)
theorem dX2_box_11 : decode cX2_box 11 = .ok (.iload_n 3, 1) := dk_29 (dk_at dksX2_box_0 11 rfl rfl)
theorem dX2_box_12 : decode cX2_box 12 = .ok (.iconst 0, 1) := dk_3 (dk_at dksX2_box_0 12 rfl rfl)
theorem dX2_box_13 : decode cX2_box 13 = .ok (.iconst 5, 1) := dk_8 (dk_at dksX2_box_0 13 rfl rfl)
theorem dX2_box_14 : decode cX2_box 14 = .ok (.invokestatic 77, 3) := dk_184 0 77 (dk_at dksX2_box_0 14 rfl rfl)
theorem dX2_box_17 : decode cX2_box 17 = .ok (.invokevirtual 60, 3) := dk_182 0 60 (dk_at dksX2_box_0 17 rfl rfl)
theorem dX2_box_20 : decode cX2_box 20 = .ok (.ifCond .ne 5, 3) := dk_154 0 5 (dk_at dksX2_box_0 20 rfl rfl)
theorem dX2_box_23 : decode cX2_box 23 = .ok (.iconst 0, 1) := dk_3 (dk_at dksX2_box_0 23 rfl rfl)
theorem dX2_box_24 : decode cX2_box 24 = .ok (.ireturn, 1) := dk_172 (dk_at dksX2_box_1 0 rfl rfl)
theorem dX2_box_25 : decode cX2_box 25 = .ok (.iload_n 3, 1) := dk_29 (dk_at dksX2_box_1 1 rfl rfl)
theorem dX2_box_26 : decode cX2_box 26 = .ok (.tableswitch 55 0 3 #[30, 37, 42, 48], 30) := by decide +kernel
theorem dX2_box_56 : decode cX2_box 56 = .ok (.iload_n 2, 1) := dk_28 (dk_at dksX2_box_3 0 rfl rfl)
theorem dX2_box_57 : decode cX2_box 57 = .ok (.iload_n 1, 1) := dk_27 (dk_at dksX2_box_3 1 rfl rfl)
theorem dX2_box_58 : decode cX2_box 58 = .ok (.invokestatic 174, 3) := dk_184 0 174 (dk_at dksX2_box_3 2 rfl rfl)
theorem dX2_box_61 : decode cX2_box 61 = .ok (.imul, 1) := dk_104 (dk_at dksX2_box_3 5 rfl rfl)
theorem dX2_box_62 : decode cX2_box 62 = .ok (.ireturn, 1) := dk_172 (dk_at dksX2_box_3 6 rfl rfl)
theorem dX2_box_63 : decode cX2_box 63 = .ok (.iload_n 1, 1) := dk_27 (dk_at dksX2_box_3 7 rfl rfl)
theorem dX2_box_64 : decode cX2_box 64 = .ok (.invokestatic 174, 3) := dk_184 0 174 (dk_at dksX2_box_3 8 rfl rfl)
theorem dX2_box_67 : decode cX2_box 67 = .ok (.ireturn, 1) := dk_172 (dk_at dksX2_box_3 11 rfl rfl)
theorem dX2_box_68 : decode cX2_box 68 = .ok (.iload_n 1, 1) := dk_27 (dk_at dksX2_box_3 12 rfl rfl)
theorem dX2_box_69 : decode cX2_box 69 = .ok (.iload_n 2, 1) := dk_28 (dk_at dksX2_box_3 13 rfl rfl)
theorem dX2_box_70 : decode cX2_box 70 = .ok (.invokestatic 226, 3) := dk_184 0 226 (dk_at dksX2_box_3 14 rfl rfl)
theorem dX2_box_73 : decode cX2_box 73 = .ok (.ireturn, 1) := dk_172 (dk_at dksX2_box_3 17 rfl rfl)
theorem dX2_box_74 : decode cX2_box 74 = .ok (.aload_n 0, 1) := dk_42 (dk_at dksX2_box_3 18 rfl rfl)
theorem dX2_box_75 : decode cX2_box 75 = .ok (.iload_n 1, 1) := dk_27 (dk_at dksX2_box_3 19 rfl rfl)
theorem dX2_box_76 : decode cX2_box 76 = .ok (.iload_n 2, 1) := dk_28 (dk_at dksX2_box_3 20 rfl rfl)
theorem dX2_box_77 : decode cX2_box 77 = .ok (.invokevirtual 190, 3) := dk_182 0 190 (dk_at dksX2_box_3 21 rfl rfl)
theorem dX2_box_80 : decode cX2_box 80 = .ok (.ireturn, 1) := dk_172 (dk_at dksX2_box_4 0 rfl rfl)
theorem dX2_box_81 : decode cX2_box 81 = .ok (.aload_n 0, 1) := dk_42 (dk_at dksX2_box_4 1 rfl rfl)
theorem dX2_box_82 : decode cX2_box 82 = .ok (.iload_n 1, 1) := dk_27 (dk_at dksX2_box_4 2 rfl rfl)
theorem dX2_box_83 : decode cX2_box 83 = .ok (.iload_n 2, 1) := dk_28 (dk_at dksX2_box_4 3 rfl rfl)
theorem dX2_box_84 : decode cX2_box 84 = .ok (.iload_n 3, 1) := dk_29 (dk_at dksX2_box_4 4 rfl rfl)
theorem dX2_box_85 : decode cX2_box 85 = .ok (.iconst 5, 1) := dk_8 (dk_at dksX2_box_4 5 rfl rfl)
theorem dX2_box_86 : decode cX2_box 86 = .ok (.if_icmp .ne 7, 3) := dk_160 0 7 (dk_at dksX2_box_4 6 rfl rfl)
theorem dX2_box_89 : decode cX2_box 89 = .ok (.iconst 1, 1) := dk_4 (dk_at dksX2_box_4 9 rfl rfl)
theorem dX2_box_90 : decode cX2_box 90 = .ok (.goto 4, 3) := dk_167 0 4 (dk_at dksX2_box_4 10 rfl rfl)
theorem dX2_box_93 : decode cX2_box 93 = .ok (.iconst 0, 1) := dk_3 (dk_at dksX2_box_4 13 rfl rfl)
theorem dX2_box_94 : decode cX2_box 94 = .ok (.invokevirtual 200, 3) := dk_182 0 200 (dk_at dksX2_box_4 14 rfl rfl)
theorem dX2_box_97 : decode cX2_box 97 = .ok (.ireturn, 1) := dk_172 (dk_at dksX2_box_4 17 rfl rfl)
abbrev cX2_boxAt : ByteArray := prog_10_method_48_code
def yX2_boxAt : MethodName := ⟨RX2, "boxAt", "(II)I"⟩
def dkwX2_boxAt_1 : List UInt8 := [184, 0, 178, 167, 0, 4, 3, 172]
abbrev dktX2_boxAt_1 : List UInt8 := dkwX2_boxAt_1 ++ []
def dkwX2_boxAt_0 : List UInt8 := [42, 42, 180, 0, 156, 42, 27, 182, 0, 181, 28, 184, 0, 213, 182, 0, 60, 153, 0, 11, 27, 28]
abbrev dktX2_boxAt_0 : List UInt8 := dkwX2_boxAt_0 ++ dktX2_boxAt_1
theorem dksX2_boxAt_0 : cX2_boxAt.data.toList.drop 0 = dktX2_boxAt_0 := by decide +kernel
theorem dksX2_boxAt_1 : cX2_boxAt.data.toList.drop 22 = dktX2_boxAt_1 := dk_seg dksX2_boxAt_0 22 rfl rfl
theorem dX2_boxAt_0 : decode cX2_boxAt 0 = .ok (.aload_n 0, 1) := dk_42 (dk_at dksX2_boxAt_0 0 rfl rfl)
theorem dX2_boxAt_1 : decode cX2_boxAt 1 = .ok (.aload_n 0, 1) := dk_42 (dk_at dksX2_boxAt_0 1 rfl rfl)
theorem dX2_boxAt_2 : decode cX2_boxAt 2 = .ok (.getfield 156, 3) := dk_180 0 156 (dk_at dksX2_boxAt_0 2 rfl rfl)
theorem dX2_boxAt_5 : decode cX2_boxAt 5 = .ok (.aload_n 0, 1) := dk_42 (dk_at dksX2_boxAt_0 5 rfl rfl)
theorem dX2_boxAt_6 : decode cX2_boxAt 6 = .ok (.iload_n 1, 1) := dk_27 (dk_at dksX2_boxAt_0 6 rfl rfl)
theorem dX2_boxAt_7 : decode cX2_boxAt 7 = .ok (.invokevirtual 181, 3) := dk_182 0 181 (dk_at dksX2_boxAt_0 7 rfl rfl)
theorem dX2_boxAt_10 : decode cX2_boxAt 10 = .ok (.iload_n 2, 1) := dk_28 (dk_at dksX2_boxAt_0 10 rfl rfl)
theorem dX2_boxAt_11 : decode cX2_boxAt 11 = .ok (.invokestatic 213, 3) := dk_184 0 213 (dk_at dksX2_boxAt_0 11 rfl rfl)
theorem dX2_boxAt_14 : decode cX2_boxAt 14 = .ok (.invokevirtual 60, 3) := dk_182 0 60 (dk_at dksX2_boxAt_0 14 rfl rfl)
theorem dX2_boxAt_17 : decode cX2_boxAt 17 = .ok (.ifCond .eq 11, 3) := dk_153 0 11 (dk_at dksX2_boxAt_0 17 rfl rfl)
theorem dX2_boxAt_20 : decode cX2_boxAt 20 = .ok (.iload_n 1, 1) := dk_27 (dk_at dksX2_boxAt_0 20 rfl rfl)
theorem dX2_boxAt_21 : decode cX2_boxAt 21 = .ok (.iload_n 2, 1) := dk_28 (dk_at dksX2_boxAt_0 21 rfl rfl)
theorem dX2_boxAt_22 : decode cX2_boxAt 22 = .ok (.invokestatic 178, 3) := dk_184 0 178 (dk_at dksX2_boxAt_1 0 rfl rfl)
theorem dX2_boxAt_25 : decode cX2_boxAt 25 = .ok (.goto 4, 3) := dk_167 0 4 (dk_at dksX2_boxAt_1 3 rfl rfl)
theorem dX2_boxAt_28 : decode cX2_boxAt 28 = .ok (.iconst 0, 1) := dk_3 (dk_at dksX2_boxAt_1 6 rfl rfl)
theorem dX2_boxAt_29 : decode cX2_boxAt 29 = .ok (.ireturn, 1) := dk_172 (dk_at dksX2_boxAt_1 7 rfl rfl)
abbrev cX2_mayAsk : ByteArray := prog_10_method_49_code
def yX2_mayAsk : MethodName := ⟨RX2, "mayAsk", "()Z"⟩
def dkwX2_mayAsk_0 : List UInt8 := [42, 42, 180, 0, 156, 4, 4, 182, 0, 60, 172]
abbrev dktX2_mayAsk_0 : List UInt8 := dkwX2_mayAsk_0 ++ []
theorem dksX2_mayAsk_0 : cX2_mayAsk.data.toList.drop 0 = dktX2_mayAsk_0 := by decide +kernel
theorem dX2_mayAsk_0 : decode cX2_mayAsk 0 = .ok (.aload_n 0, 1) := dk_42 (dk_at dksX2_mayAsk_0 0 rfl rfl)
theorem dX2_mayAsk_1 : decode cX2_mayAsk 1 = .ok (.aload_n 0, 1) := dk_42 (dk_at dksX2_mayAsk_0 1 rfl rfl)
theorem dX2_mayAsk_2 : decode cX2_mayAsk 2 = .ok (.getfield 156, 3) := dk_180 0 156 (dk_at dksX2_mayAsk_0 2 rfl rfl)
theorem dX2_mayAsk_5 : decode cX2_mayAsk 5 = .ok (.iconst 1, 1) := dk_4 (dk_at dksX2_mayAsk_0 5 rfl rfl)
theorem dX2_mayAsk_6 : decode cX2_mayAsk 6 = .ok (.iconst 1, 1) := dk_4 (dk_at dksX2_mayAsk_0 6 rfl rfl)
theorem dX2_mayAsk_7 : decode cX2_mayAsk 7 = .ok (.invokevirtual 60, 3) := dk_182 0 60 (dk_at dksX2_mayAsk_0 7 rfl rfl)
theorem dX2_mayAsk_10 : decode cX2_mayAsk 10 = .ok (.ireturn, 1) := dk_172 (dk_at dksX2_mayAsk_0 10 rfl rfl)
abbrev cX2_firstEmpty : ByteArray := prog_10_method_50_code
def yX2_firstEmpty : MethodName := ⟨RX2, "firstEmpty", "()I"⟩
def dkwX2_firstEmpty_1 : List UInt8 := [42, 180, 0, 9, 6, 46, 27, 182, 0, 190, 154, 0, 5, 27, 172, 132, 1, 1, 167, 255, 225, 2, 172]
abbrev dktX2_firstEmpty_1 : List UInt8 := dkwX2_firstEmpty_1 ++ []
def dkwX2_firstEmpty_0 : List UInt8 := [42, 182, 0, 229, 154, 0, 5, 3, 172, 3, 60, 27, 4, 42, 180, 0, 9, 6, 46, 120, 162, 0, 25, 42]
abbrev dktX2_firstEmpty_0 : List UInt8 := dkwX2_firstEmpty_0 ++ dktX2_firstEmpty_1
theorem dksX2_firstEmpty_0 : cX2_firstEmpty.data.toList.drop 0 = dktX2_firstEmpty_0 := by decide +kernel
theorem dksX2_firstEmpty_1 : cX2_firstEmpty.data.toList.drop 24 = dktX2_firstEmpty_1 := dk_seg dksX2_firstEmpty_0 24 rfl rfl
theorem dX2_firstEmpty_0 : decode cX2_firstEmpty 0 = .ok (.aload_n 0, 1) := dk_42 (dk_at dksX2_firstEmpty_0 0 rfl rfl)
theorem dX2_firstEmpty_1 : decode cX2_firstEmpty 1 = .ok (.invokevirtual 229, 3) := dk_182 0 229 (dk_at dksX2_firstEmpty_0 1 rfl rfl)
theorem dX2_firstEmpty_4 : decode cX2_firstEmpty 4 = .ok (.ifCond .ne 5, 3) := dk_154 0 5 (dk_at dksX2_firstEmpty_0 4 rfl rfl)
theorem dX2_firstEmpty_7 : decode cX2_firstEmpty 7 = .ok (.iconst 0, 1) := dk_3 (dk_at dksX2_firstEmpty_0 7 rfl rfl)
theorem dX2_firstEmpty_8 : decode cX2_firstEmpty 8 = .ok (.ireturn, 1) := dk_172 (dk_at dksX2_firstEmpty_0 8 rfl rfl)
theorem dX2_firstEmpty_9 : decode cX2_firstEmpty 9 = .ok (.iconst 0, 1) := dk_3 (dk_at dksX2_firstEmpty_0 9 rfl rfl)
theorem dX2_firstEmpty_10 : decode cX2_firstEmpty 10 = .ok (.istore_n 1, 1) := dk_60 (dk_at dksX2_firstEmpty_0 10 rfl rfl)
theorem dX2_firstEmpty_11 : decode cX2_firstEmpty 11 = .ok (.iload_n 1, 1) := dk_27 (dk_at dksX2_firstEmpty_0 11 rfl rfl)
theorem dX2_firstEmpty_12 : decode cX2_firstEmpty 12 = .ok (.iconst 1, 1) := dk_4 (dk_at dksX2_firstEmpty_0 12 rfl rfl)
theorem dX2_firstEmpty_13 : decode cX2_firstEmpty 13 = .ok (.aload_n 0, 1) := dk_42 (dk_at dksX2_firstEmpty_0 13 rfl rfl)
theorem dX2_firstEmpty_14 : decode cX2_firstEmpty 14 = .ok (.getfield 9, 3) := dk_180 0 9 (dk_at dksX2_firstEmpty_0 14 rfl rfl)
theorem dX2_firstEmpty_17 : decode cX2_firstEmpty 17 = .ok (.iconst 3, 1) := dk_6 (dk_at dksX2_firstEmpty_0 17 rfl rfl)
theorem dX2_firstEmpty_18 : decode cX2_firstEmpty 18 = .ok (.iaload, 1) := dk_46 (dk_at dksX2_firstEmpty_0 18 rfl rfl)
theorem dX2_firstEmpty_19 : decode cX2_firstEmpty 19 = .ok (.ishl, 1) := dk_120 (dk_at dksX2_firstEmpty_0 19 rfl rfl)
theorem dX2_firstEmpty_20 : decode cX2_firstEmpty 20 = .ok (.if_icmp .ge 25, 3) := dk_162 0 25 (dk_at dksX2_firstEmpty_0 20 rfl rfl)
theorem dX2_firstEmpty_23 : decode cX2_firstEmpty 23 = .ok (.aload_n 0, 1) := dk_42 (dk_at dksX2_firstEmpty_0 23 rfl rfl)
theorem dX2_firstEmpty_24 : decode cX2_firstEmpty 24 = .ok (.aload_n 0, 1) := dk_42 (dk_at dksX2_firstEmpty_1 0 rfl rfl)
theorem dX2_firstEmpty_25 : decode cX2_firstEmpty 25 = .ok (.getfield 9, 3) := dk_180 0 9 (dk_at dksX2_firstEmpty_1 1 rfl rfl)
theorem dX2_firstEmpty_28 : decode cX2_firstEmpty 28 = .ok (.iconst 3, 1) := dk_6 (dk_at dksX2_firstEmpty_1 4 rfl rfl)
theorem dX2_firstEmpty_29 : decode cX2_firstEmpty 29 = .ok (.iaload, 1) := dk_46 (dk_at dksX2_firstEmpty_1 5 rfl rfl)
theorem dX2_firstEmpty_30 : decode cX2_firstEmpty 30 = .ok (.iload_n 1, 1) := dk_27 (dk_at dksX2_firstEmpty_1 6 rfl rfl)
theorem dX2_firstEmpty_31 : decode cX2_firstEmpty 31 = .ok (.invokevirtual 190, 3) := dk_182 0 190 (dk_at dksX2_firstEmpty_1 7 rfl rfl)
theorem dX2_firstEmpty_34 : decode cX2_firstEmpty 34 = .ok (.ifCond .ne 5, 3) := dk_154 0 5 (dk_at dksX2_firstEmpty_1 10 rfl rfl)
theorem dX2_firstEmpty_37 : decode cX2_firstEmpty 37 = .ok (.iload_n 1, 1) := dk_27 (dk_at dksX2_firstEmpty_1 13 rfl rfl)
theorem dX2_firstEmpty_38 : decode cX2_firstEmpty 38 = .ok (.ireturn, 1) := dk_172 (dk_at dksX2_firstEmpty_1 14 rfl rfl)
theorem dX2_firstEmpty_39 : decode cX2_firstEmpty 39 = .ok (.iinc 1 1, 3) := dk_132 1 1 (dk_at dksX2_firstEmpty_1 15 rfl rfl)
theorem dX2_firstEmpty_42 : decode cX2_firstEmpty 42 = .ok (.goto (-31), 3) := dk_167 255 225 (dk_at dksX2_firstEmpty_1 18 rfl rfl)
theorem dX2_firstEmpty_45 : decode cX2_firstEmpty 45 = .ok (.iconst (-1), 1) := dk_2 (dk_at dksX2_firstEmpty_1 21 rfl rfl)
theorem dX2_firstEmpty_46 : decode cX2_firstEmpty 46 = .ok (.ireturn, 1) := dk_172 (dk_at dksX2_firstEmpty_1 22 rfl rfl)
abbrev cX2_densest : ByteArray := prog_10_method_51_code
def yX2_densest : MethodName := ⟨RX2, "densest", "()I"⟩
def dkwX2_densest_2 : List UInt8 := [167, 0, 8, 29, 60, 21, 4, 61, 132, 3, 1, 167, 255, 214, 27, 172]
abbrev dktX2_densest_2 : List UInt8 := dkwX2_densest_2 ++ []
def dkwX2_densest_1 : List UInt8 := [162, 0, 36, 42, 42, 180, 0, 9, 6, 46, 29, 182, 0, 190, 54, 4, 21, 4, 28, 163, 0, 6]
abbrev dktX2_densest_1 : List UInt8 := dkwX2_densest_1 ++ dktX2_densest_2
def dkwX2_densest_0 : List UInt8 := [42, 182, 0, 229, 154, 0, 5, 3, 172, 2, 60, 3, 61, 3, 62, 29, 4, 42, 180, 0, 9, 6, 46, 120]
abbrev dktX2_densest_0 : List UInt8 := dkwX2_densest_0 ++ dktX2_densest_1
theorem dksX2_densest_0 : cX2_densest.data.toList.drop 0 = dktX2_densest_0 := by decide +kernel
theorem dksX2_densest_1 : cX2_densest.data.toList.drop 24 = dktX2_densest_1 := dk_seg dksX2_densest_0 24 rfl rfl
theorem dksX2_densest_2 : cX2_densest.data.toList.drop 46 = dktX2_densest_2 := dk_seg dksX2_densest_1 22 rfl rfl
theorem dX2_densest_0 : decode cX2_densest 0 = .ok (.aload_n 0, 1) := dk_42 (dk_at dksX2_densest_0 0 rfl rfl)
theorem dX2_densest_1 : decode cX2_densest 1 = .ok (.invokevirtual 229, 3) := dk_182 0 229 (dk_at dksX2_densest_0 1 rfl rfl)
theorem dX2_densest_4 : decode cX2_densest 4 = .ok (.ifCond .ne 5, 3) := dk_154 0 5 (dk_at dksX2_densest_0 4 rfl rfl)
theorem dX2_densest_7 : decode cX2_densest 7 = .ok (.iconst 0, 1) := dk_3 (dk_at dksX2_densest_0 7 rfl rfl)
theorem dX2_densest_8 : decode cX2_densest 8 = .ok (.ireturn, 1) := dk_172 (dk_at dksX2_densest_0 8 rfl rfl)
theorem dX2_densest_9 : decode cX2_densest 9 = .ok (.iconst (-1), 1) := dk_2 (dk_at dksX2_densest_0 9 rfl rfl)
theorem dX2_densest_10 : decode cX2_densest 10 = .ok (.istore_n 1, 1) := dk_60 (dk_at dksX2_densest_0 10 rfl rfl)
theorem dX2_densest_11 : decode cX2_densest 11 = .ok (.iconst 0, 1) := dk_3 (dk_at dksX2_densest_0 11 rfl rfl)
theorem dX2_densest_12 : decode cX2_densest 12 = .ok (.istore_n 2, 1) := dk_61 (dk_at dksX2_densest_0 12 rfl rfl)
theorem dX2_densest_13 : decode cX2_densest 13 = .ok (.iconst 0, 1) := dk_3 (dk_at dksX2_densest_0 13 rfl rfl)
theorem dX2_densest_14 : decode cX2_densest 14 = .ok (.istore_n 3, 1) := dk_62 (dk_at dksX2_densest_0 14 rfl rfl)
theorem dX2_densest_15 : decode cX2_densest 15 = .ok (.iload_n 3, 1) := dk_29 (dk_at dksX2_densest_0 15 rfl rfl)
theorem dX2_densest_16 : decode cX2_densest 16 = .ok (.iconst 1, 1) := dk_4 (dk_at dksX2_densest_0 16 rfl rfl)
theorem dX2_densest_17 : decode cX2_densest 17 = .ok (.aload_n 0, 1) := dk_42 (dk_at dksX2_densest_0 17 rfl rfl)
theorem dX2_densest_18 : decode cX2_densest 18 = .ok (.getfield 9, 3) := dk_180 0 9 (dk_at dksX2_densest_0 18 rfl rfl)
theorem dX2_densest_21 : decode cX2_densest 21 = .ok (.iconst 3, 1) := dk_6 (dk_at dksX2_densest_0 21 rfl rfl)
theorem dX2_densest_22 : decode cX2_densest 22 = .ok (.iaload, 1) := dk_46 (dk_at dksX2_densest_0 22 rfl rfl)
theorem dX2_densest_23 : decode cX2_densest 23 = .ok (.ishl, 1) := dk_120 (dk_at dksX2_densest_0 23 rfl rfl)
theorem dX2_densest_24 : decode cX2_densest 24 = .ok (.if_icmp .ge 36, 3) := dk_162 0 36 (dk_at dksX2_densest_1 0 rfl rfl)
theorem dX2_densest_27 : decode cX2_densest 27 = .ok (.aload_n 0, 1) := dk_42 (dk_at dksX2_densest_1 3 rfl rfl)
theorem dX2_densest_28 : decode cX2_densest 28 = .ok (.aload_n 0, 1) := dk_42 (dk_at dksX2_densest_1 4 rfl rfl)
theorem dX2_densest_29 : decode cX2_densest 29 = .ok (.getfield 9, 3) := dk_180 0 9 (dk_at dksX2_densest_1 5 rfl rfl)
theorem dX2_densest_32 : decode cX2_densest 32 = .ok (.iconst 3, 1) := dk_6 (dk_at dksX2_densest_1 8 rfl rfl)
theorem dX2_densest_33 : decode cX2_densest 33 = .ok (.iaload, 1) := dk_46 (dk_at dksX2_densest_1 9 rfl rfl)
theorem dX2_densest_34 : decode cX2_densest 34 = .ok (.iload_n 3, 1) := dk_29 (dk_at dksX2_densest_1 10 rfl rfl)
theorem dX2_densest_35 : decode cX2_densest 35 = .ok (.invokevirtual 190, 3) := dk_182 0 190 (dk_at dksX2_densest_1 11 rfl rfl)
theorem dX2_densest_38 : decode cX2_densest 38 = .ok (.istore 4, 2) := dk_54 4 (dk_at dksX2_densest_1 14 rfl rfl)
theorem dX2_densest_40 : decode cX2_densest 40 = .ok (.iload 4, 2) := dk_21 4 (dk_at dksX2_densest_1 16 rfl rfl)
theorem dX2_densest_42 : decode cX2_densest 42 = .ok (.iload_n 2, 1) := dk_28 (dk_at dksX2_densest_1 18 rfl rfl)
theorem dX2_densest_43 : decode cX2_densest 43 = .ok (.if_icmp .gt 6, 3) := dk_163 0 6 (dk_at dksX2_densest_1 19 rfl rfl)
theorem dX2_densest_46 : decode cX2_densest 46 = .ok (.goto 8, 3) := dk_167 0 8 (dk_at dksX2_densest_2 0 rfl rfl)
theorem dX2_densest_49 : decode cX2_densest 49 = .ok (.iload_n 3, 1) := dk_29 (dk_at dksX2_densest_2 3 rfl rfl)
theorem dX2_densest_50 : decode cX2_densest 50 = .ok (.istore_n 1, 1) := dk_60 (dk_at dksX2_densest_2 4 rfl rfl)
theorem dX2_densest_51 : decode cX2_densest 51 = .ok (.iload 4, 2) := dk_21 4 (dk_at dksX2_densest_2 5 rfl rfl)
theorem dX2_densest_53 : decode cX2_densest 53 = .ok (.istore_n 2, 1) := dk_61 (dk_at dksX2_densest_2 7 rfl rfl)
theorem dX2_densest_54 : decode cX2_densest 54 = .ok (.iinc 3 1, 3) := dk_132 3 1 (dk_at dksX2_densest_2 8 rfl rfl)
theorem dX2_densest_57 : decode cX2_densest 57 = .ok (.goto (-42), 3) := dk_167 255 214 (dk_at dksX2_densest_2 11 rfl rfl)
theorem dX2_densest_60 : decode cX2_densest 60 = .ok (.iload_n 1, 1) := dk_27 (dk_at dksX2_densest_2 14 rfl rfl)
theorem dX2_densest_61 : decode cX2_densest 61 = .ok (.ireturn, 1) := dk_172 (dk_at dksX2_densest_2 15 rfl rfl)
abbrev cX2_isMoment : ByteArray := prog_10_method_55_code
def yX2_isMoment : MethodName := ⟨RX2, "isMoment", "(I)Z"⟩
def dkwX2_isMoment_0 : List UInt8 := [26, 3, 7, 184, 0, 77, 172]
abbrev dktX2_isMoment_0 : List UInt8 := dkwX2_isMoment_0 ++ []
theorem dksX2_isMoment_0 : cX2_isMoment.data.toList.drop 0 = dktX2_isMoment_0 := by decide +kernel
theorem dX2_isMoment_0 : decode cX2_isMoment 0 = .ok (.iload_n 0, 1) := dk_26 (dk_at dksX2_isMoment_0 0 rfl rfl)
theorem dX2_isMoment_1 : decode cX2_isMoment 1 = .ok (.iconst 0, 1) := dk_3 (dk_at dksX2_isMoment_0 1 rfl rfl)
theorem dX2_isMoment_2 : decode cX2_isMoment 2 = .ok (.iconst 4, 1) := dk_7 (dk_at dksX2_isMoment_0 2 rfl rfl)
theorem dX2_isMoment_3 : decode cX2_isMoment 3 = .ok (.invokestatic 77, 3) := dk_184 0 77 (dk_at dksX2_isMoment_0 3 rfl rfl)
theorem dX2_isMoment_6 : decode cX2_isMoment 6 = .ok (.ireturn, 1) := dk_172 (dk_at dksX2_isMoment_0 6 rfl rfl)
abbrev cX2_mayMoment : ByteArray := prog_10_method_56_code
def yX2_mayMoment : MethodName := ⟨RX2, "mayMoment", "(III)Z"⟩
def dkwX2_mayMoment_0 : List UInt8 := [42, 42, 180, 0, 156, 42, 27, 28, 182, 0, 222, 29, 184, 0, 237, 182, 0, 60, 172]
abbrev dktX2_mayMoment_0 : List UInt8 := dkwX2_mayMoment_0 ++ []
theorem dksX2_mayMoment_0 : cX2_mayMoment.data.toList.drop 0 = dktX2_mayMoment_0 := by decide +kernel
theorem dX2_mayMoment_0 : decode cX2_mayMoment 0 = .ok (.aload_n 0, 1) := dk_42 (dk_at dksX2_mayMoment_0 0 rfl rfl)
theorem dX2_mayMoment_1 : decode cX2_mayMoment 1 = .ok (.aload_n 0, 1) := dk_42 (dk_at dksX2_mayMoment_0 1 rfl rfl)
theorem dX2_mayMoment_2 : decode cX2_mayMoment 2 = .ok (.getfield 156, 3) := dk_180 0 156 (dk_at dksX2_mayMoment_0 2 rfl rfl)
theorem dX2_mayMoment_5 : decode cX2_mayMoment 5 = .ok (.aload_n 0, 1) := dk_42 (dk_at dksX2_mayMoment_0 5 rfl rfl)
theorem dX2_mayMoment_6 : decode cX2_mayMoment 6 = .ok (.iload_n 1, 1) := dk_27 (dk_at dksX2_mayMoment_0 6 rfl rfl)
theorem dX2_mayMoment_7 : decode cX2_mayMoment 7 = .ok (.iload_n 2, 1) := dk_28 (dk_at dksX2_mayMoment_0 7 rfl rfl)
theorem dX2_mayMoment_8 : decode cX2_mayMoment 8 = .ok (.invokevirtual 222, 3) := dk_182 0 222 (dk_at dksX2_mayMoment_0 8 rfl rfl)
theorem dX2_mayMoment_11 : decode cX2_mayMoment 11 = .ok (.iload_n 3, 1) := dk_29 (dk_at dksX2_mayMoment_0 11 rfl rfl)
theorem dX2_mayMoment_12 : decode cX2_mayMoment 12 = .ok (.invokestatic 237, 3) := dk_184 0 237 (dk_at dksX2_mayMoment_0 12 rfl rfl)
theorem dX2_mayMoment_15 : decode cX2_mayMoment 15 = .ok (.invokevirtual 60, 3) := dk_182 0 60 (dk_at dksX2_mayMoment_0 15 rfl rfl)
theorem dX2_mayMoment_18 : decode cX2_mayMoment 18 = .ok (.ireturn, 1) := dk_172 (dk_at dksX2_mayMoment_0 18 rfl rfl)
abbrev cX2_power : ByteArray := prog_10_method_52_code
def yX2_power : MethodName := ⟨RX2, "power", "(JI)J"⟩
def dkwX2_power_0 : List UInt8 := [10, 66, 3, 54, 5, 21, 5, 28, 162, 0, 13, 33, 30, 105, 66, 132, 5, 1, 167, 255, 243, 33, 173]
abbrev dktX2_power_0 : List UInt8 := dkwX2_power_0 ++ []
theorem dksX2_power_0 : cX2_power.data.toList.drop 0 = dktX2_power_0 := by decide +kernel
theorem dX2_power_0 : decode cX2_power 0 = .ok (.lconst 1, 1) := dk_10 (dk_at dksX2_power_0 0 rfl rfl)
theorem dX2_power_1 : decode cX2_power 1 = .ok (.lstore_n 3, 1) := dk_66 (dk_at dksX2_power_0 1 rfl rfl)
theorem dX2_power_2 : decode cX2_power 2 = .ok (.iconst 0, 1) := dk_3 (dk_at dksX2_power_0 2 rfl rfl)
theorem dX2_power_3 : decode cX2_power 3 = .ok (.istore 5, 2) := dk_54 5 (dk_at dksX2_power_0 3 rfl rfl)
theorem dX2_power_5 : decode cX2_power 5 = .ok (.iload 5, 2) := dk_21 5 (dk_at dksX2_power_0 5 rfl rfl)
theorem dX2_power_7 : decode cX2_power 7 = .ok (.iload_n 2, 1) := dk_28 (dk_at dksX2_power_0 7 rfl rfl)
theorem dX2_power_8 : decode cX2_power 8 = .ok (.if_icmp .ge 13, 3) := dk_162 0 13 (dk_at dksX2_power_0 8 rfl rfl)
theorem dX2_power_11 : decode cX2_power 11 = .ok (.lload_n 3, 1) := dk_33 (dk_at dksX2_power_0 11 rfl rfl)
theorem dX2_power_12 : decode cX2_power 12 = .ok (.lload_n 0, 1) := dk_30 (dk_at dksX2_power_0 12 rfl rfl)
theorem dX2_power_13 : decode cX2_power 13 = .ok (.lmul, 1) := dk_105 (dk_at dksX2_power_0 13 rfl rfl)
theorem dX2_power_14 : decode cX2_power 14 = .ok (.lstore_n 3, 1) := dk_66 (dk_at dksX2_power_0 14 rfl rfl)
theorem dX2_power_15 : decode cX2_power 15 = .ok (.iinc 5 1, 3) := dk_132 5 1 (dk_at dksX2_power_0 15 rfl rfl)
theorem dX2_power_18 : decode cX2_power 18 = .ok (.goto (-13), 3) := dk_167 255 243 (dk_at dksX2_power_0 18 rfl rfl)
theorem dX2_power_21 : decode cX2_power 21 = .ok (.lload_n 3, 1) := dk_33 (dk_at dksX2_power_0 21 rfl rfl)
theorem dX2_power_22 : decode cX2_power 22 = .ok (.lreturn, 1) := dk_173 (dk_at dksX2_power_0 22 rfl rfl)
abbrev cX2_momentOf : ByteArray := prog_10_method_54_code
def yX2_momentOf : MethodName := ⟨RX2, "momentOf", "(III)J"⟩
def dkwX2_momentOf_2 : List UInt8 := [28, 184, 0, 226, 100, 133, 29, 184, 0, 233, 105, 97, 55, 4, 132, 6, 1, 167, 255, 199, 22, 4, 173]
abbrev dktX2_momentOf_2 : List UInt8 := dkwX2_momentOf_2 ++ []
def dkwX2_momentOf_1 : List UInt8 := [182, 0, 184, 153, 0, 35, 22, 4, 42, 21, 6, 4, 182, 0, 163, 133, 42, 21, 6, 3, 182, 0, 163, 27]
abbrev dktX2_momentOf_1 : List UInt8 := dkwX2_momentOf_1 ++ dktX2_momentOf_2
def dkwX2_momentOf_0 : List UInt8 := [9, 55, 4, 3, 54, 6, 21, 6, 42, 180, 0, 9, 3, 46, 162, 0, 52, 42, 21, 6, 27, 28]
abbrev dktX2_momentOf_0 : List UInt8 := dkwX2_momentOf_0 ++ dktX2_momentOf_1
theorem dksX2_momentOf_0 : cX2_momentOf.data.toList.drop 0 = dktX2_momentOf_0 := by decide +kernel
theorem dksX2_momentOf_1 : cX2_momentOf.data.toList.drop 22 = dktX2_momentOf_1 := dk_seg dksX2_momentOf_0 22 rfl rfl
theorem dksX2_momentOf_2 : cX2_momentOf.data.toList.drop 46 = dktX2_momentOf_2 := dk_seg dksX2_momentOf_1 24 rfl rfl
theorem dX2_momentOf_0 : decode cX2_momentOf 0 = .ok (.lconst 0, 1) := dk_9 (dk_at dksX2_momentOf_0 0 rfl rfl)
theorem dX2_momentOf_1 : decode cX2_momentOf 1 = .ok (.lstore 4, 2) := dk_55 4 (dk_at dksX2_momentOf_0 1 rfl rfl)
theorem dX2_momentOf_3 : decode cX2_momentOf 3 = .ok (.iconst 0, 1) := dk_3 (dk_at dksX2_momentOf_0 3 rfl rfl)
theorem dX2_momentOf_4 : decode cX2_momentOf 4 = .ok (.istore 6, 2) := dk_54 6 (dk_at dksX2_momentOf_0 4 rfl rfl)
theorem dX2_momentOf_6 : decode cX2_momentOf 6 = .ok (.iload 6, 2) := dk_21 6 (dk_at dksX2_momentOf_0 6 rfl rfl)
theorem dX2_momentOf_8 : decode cX2_momentOf 8 = .ok (.aload_n 0, 1) := dk_42 (dk_at dksX2_momentOf_0 8 rfl rfl)
theorem dX2_momentOf_9 : decode cX2_momentOf 9 = .ok (.getfield 9, 3) := dk_180 0 9 (dk_at dksX2_momentOf_0 9 rfl rfl)
theorem dX2_momentOf_12 : decode cX2_momentOf 12 = .ok (.iconst 0, 1) := dk_3 (dk_at dksX2_momentOf_0 12 rfl rfl)
theorem dX2_momentOf_13 : decode cX2_momentOf 13 = .ok (.iaload, 1) := dk_46 (dk_at dksX2_momentOf_0 13 rfl rfl)
theorem dX2_momentOf_14 : decode cX2_momentOf 14 = .ok (.if_icmp .ge 52, 3) := dk_162 0 52 (dk_at dksX2_momentOf_0 14 rfl rfl)
theorem dX2_momentOf_17 : decode cX2_momentOf 17 = .ok (.aload_n 0, 1) := dk_42 (dk_at dksX2_momentOf_0 17 rfl rfl)
theorem dX2_momentOf_18 : decode cX2_momentOf 18 = .ok (.iload 6, 2) := dk_21 6 (dk_at dksX2_momentOf_0 18 rfl rfl)
theorem dX2_momentOf_20 : decode cX2_momentOf 20 = .ok (.iload_n 1, 1) := dk_27 (dk_at dksX2_momentOf_0 20 rfl rfl)
theorem dX2_momentOf_21 : decode cX2_momentOf 21 = .ok (.iload_n 2, 1) := dk_28 (dk_at dksX2_momentOf_0 21 rfl rfl)
theorem dX2_momentOf_22 : decode cX2_momentOf 22 = .ok (.invokevirtual 184, 3) := dk_182 0 184 (dk_at dksX2_momentOf_1 0 rfl rfl)
theorem dX2_momentOf_25 : decode cX2_momentOf 25 = .ok (.ifCond .eq 35, 3) := dk_153 0 35 (dk_at dksX2_momentOf_1 3 rfl rfl)
theorem dX2_momentOf_28 : decode cX2_momentOf 28 = .ok (.lload 4, 2) := dk_22 4 (dk_at dksX2_momentOf_1 6 rfl rfl)
theorem dX2_momentOf_30 : decode cX2_momentOf 30 = .ok (.aload_n 0, 1) := dk_42 (dk_at dksX2_momentOf_1 8 rfl rfl)
theorem dX2_momentOf_31 : decode cX2_momentOf 31 = .ok (.iload 6, 2) := dk_21 6 (dk_at dksX2_momentOf_1 9 rfl rfl)
theorem dX2_momentOf_33 : decode cX2_momentOf 33 = .ok (.iconst 1, 1) := dk_4 (dk_at dksX2_momentOf_1 11 rfl rfl)
theorem dX2_momentOf_34 : decode cX2_momentOf 34 = .ok (.invokevirtual 163, 3) := dk_182 0 163 (dk_at dksX2_momentOf_1 12 rfl rfl)
theorem dX2_momentOf_37 : decode cX2_momentOf 37 = .ok (.i2l, 1) := dk_133 (dk_at dksX2_momentOf_1 15 rfl rfl)
theorem dX2_momentOf_38 : decode cX2_momentOf 38 = .ok (.aload_n 0, 1) := dk_42 (dk_at dksX2_momentOf_1 16 rfl rfl)
theorem dX2_momentOf_39 : decode cX2_momentOf 39 = .ok (.iload 6, 2) := dk_21 6 (dk_at dksX2_momentOf_1 17 rfl rfl)
theorem dX2_momentOf_41 : decode cX2_momentOf 41 = .ok (.iconst 0, 1) := dk_3 (dk_at dksX2_momentOf_1 19 rfl rfl)
theorem dX2_momentOf_42 : decode cX2_momentOf 42 = .ok (.invokevirtual 163, 3) := dk_182 0 163 (dk_at dksX2_momentOf_1 20 rfl rfl)
theorem dX2_momentOf_45 : decode cX2_momentOf 45 = .ok (.iload_n 1, 1) := dk_27 (dk_at dksX2_momentOf_1 23 rfl rfl)
theorem dX2_momentOf_46 : decode cX2_momentOf 46 = .ok (.iload_n 2, 1) := dk_28 (dk_at dksX2_momentOf_2 0 rfl rfl)
theorem dX2_momentOf_47 : decode cX2_momentOf 47 = .ok (.invokestatic 226, 3) := dk_184 0 226 (dk_at dksX2_momentOf_2 1 rfl rfl)
theorem dX2_momentOf_50 : decode cX2_momentOf 50 = .ok (.isub, 1) := dk_100 (dk_at dksX2_momentOf_2 4 rfl rfl)
theorem dX2_momentOf_51 : decode cX2_momentOf 51 = .ok (.i2l, 1) := dk_133 (dk_at dksX2_momentOf_2 5 rfl rfl)
theorem dX2_momentOf_52 : decode cX2_momentOf 52 = .ok (.iload_n 3, 1) := dk_29 (dk_at dksX2_momentOf_2 6 rfl rfl)
theorem dX2_momentOf_53 : decode cX2_momentOf 53 = .ok (.invokestatic 233, 3) := dk_184 0 233 (dk_at dksX2_momentOf_2 7 rfl rfl)
theorem dX2_momentOf_56 : decode cX2_momentOf 56 = .ok (.lmul, 1) := dk_105 (dk_at dksX2_momentOf_2 10 rfl rfl)
theorem dX2_momentOf_57 : decode cX2_momentOf 57 = .ok (.ladd, 1) := dk_97 (dk_at dksX2_momentOf_2 11 rfl rfl)
theorem dX2_momentOf_58 : decode cX2_momentOf 58 = .ok (.lstore 4, 2) := dk_55 4 (dk_at dksX2_momentOf_2 12 rfl rfl)
theorem dX2_momentOf_60 : decode cX2_momentOf 60 = .ok (.iinc 6 1, 3) := dk_132 6 1 (dk_at dksX2_momentOf_2 14 rfl rfl)
theorem dX2_momentOf_63 : decode cX2_momentOf 63 = .ok (.goto (-57), 3) := dk_167 255 199 (dk_at dksX2_momentOf_2 17 rfl rfl)
theorem dX2_momentOf_66 : decode cX2_momentOf 66 = .ok (.lload 4, 2) := dk_22 4 (dk_at dksX2_momentOf_2 20 rfl rfl)
theorem dX2_momentOf_68 : decode cX2_momentOf 68 = .ok (.lreturn, 1) := dk_173 (dk_at dksX2_momentOf_2 22 rfl rfl)
abbrev cX2_moment : ByteArray := prog_10_method_57_code
def yX2_moment : MethodName := ⟨RX2, "moment", "(III)J"⟩
def dkwX2_moment_0 : List UInt8 := [42, 27, 28, 29, 182, 0, 240, 153, 0, 13, 42, 27, 28, 29, 182, 0, 243, 167, 0, 4, 9, 173]
abbrev dktX2_moment_0 : List UInt8 := dkwX2_moment_0 ++ []
theorem dksX2_moment_0 : cX2_moment.data.toList.drop 0 = dktX2_moment_0 := by decide +kernel
theorem dX2_moment_0 : decode cX2_moment 0 = .ok (.aload_n 0, 1) := dk_42 (dk_at dksX2_moment_0 0 rfl rfl)
theorem dX2_moment_1 : decode cX2_moment 1 = .ok (.iload_n 1, 1) := dk_27 (dk_at dksX2_moment_0 1 rfl rfl)
theorem dX2_moment_2 : decode cX2_moment 2 = .ok (.iload_n 2, 1) := dk_28 (dk_at dksX2_moment_0 2 rfl rfl)
theorem dX2_moment_3 : decode cX2_moment 3 = .ok (.iload_n 3, 1) := dk_29 (dk_at dksX2_moment_0 3 rfl rfl)
theorem dX2_moment_4 : decode cX2_moment 4 = .ok (.invokevirtual 240, 3) := dk_182 0 240 (dk_at dksX2_moment_0 4 rfl rfl)
theorem dX2_moment_7 : decode cX2_moment 7 = .ok (.ifCond .eq 13, 3) := dk_153 0 13 (dk_at dksX2_moment_0 7 rfl rfl)
theorem dX2_moment_10 : decode cX2_moment 10 = .ok (.aload_n 0, 1) := dk_42 (dk_at dksX2_moment_0 10 rfl rfl)
theorem dX2_moment_11 : decode cX2_moment 11 = .ok (.iload_n 1, 1) := dk_27 (dk_at dksX2_moment_0 11 rfl rfl)
theorem dX2_moment_12 : decode cX2_moment 12 = .ok (.iload_n 2, 1) := dk_28 (dk_at dksX2_moment_0 12 rfl rfl)
theorem dX2_moment_13 : decode cX2_moment 13 = .ok (.iload_n 3, 1) := dk_29 (dk_at dksX2_moment_0 13 rfl rfl)
theorem dX2_moment_14 : decode cX2_moment 14 = .ok (.invokevirtual 243, 3) := dk_182 0 243 (dk_at dksX2_moment_0 14 rfl rfl)
theorem dX2_moment_17 : decode cX2_moment 17 = .ok (.goto 4, 3) := dk_167 0 4 (dk_at dksX2_moment_0 17 rfl rfl)
theorem dX2_moment_20 : decode cX2_moment 20 = .ok (.lconst 0, 1) := dk_9 (dk_at dksX2_moment_0 20 rfl rfl)
theorem dX2_moment_21 : decode cX2_moment 21 = .ok (.lreturn, 1) := dk_173 (dk_at dksX2_moment_0 21 rfl rfl)
abbrev cX2_laidAt : ByteArray := prog_10_method_58_code
def yX2_laidAt : MethodName := ⟨RX2, "laidAt", "(II)I"⟩
def dkwX2_laidAt_0 : List UInt8 := [8, 4, 26, 120, 4, 100, 27, 96, 104, 172]
abbrev dktX2_laidAt_0 : List UInt8 := dkwX2_laidAt_0 ++ []
theorem dksX2_laidAt_0 : cX2_laidAt.data.toList.drop 0 = dktX2_laidAt_0 := by decide +kernel
theorem dX2_laidAt_0 : decode cX2_laidAt 0 = .ok (.iconst 5, 1) := dk_8 (dk_at dksX2_laidAt_0 0 rfl rfl)
theorem dX2_laidAt_1 : decode cX2_laidAt 1 = .ok (.iconst 1, 1) := dk_4 (dk_at dksX2_laidAt_0 1 rfl rfl)
theorem dX2_laidAt_2 : decode cX2_laidAt 2 = .ok (.iload_n 0, 1) := dk_26 (dk_at dksX2_laidAt_0 2 rfl rfl)
theorem dX2_laidAt_3 : decode cX2_laidAt 3 = .ok (.ishl, 1) := dk_120 (dk_at dksX2_laidAt_0 3 rfl rfl)
theorem dX2_laidAt_4 : decode cX2_laidAt 4 = .ok (.iconst 1, 1) := dk_4 (dk_at dksX2_laidAt_0 4 rfl rfl)
theorem dX2_laidAt_5 : decode cX2_laidAt 5 = .ok (.isub, 1) := dk_100 (dk_at dksX2_laidAt_0 5 rfl rfl)
theorem dX2_laidAt_6 : decode cX2_laidAt 6 = .ok (.iload_n 1, 1) := dk_27 (dk_at dksX2_laidAt_0 6 rfl rfl)
theorem dX2_laidAt_7 : decode cX2_laidAt 7 = .ok (.iadd, 1) := dk_96 (dk_at dksX2_laidAt_0 7 rfl rfl)
theorem dX2_laidAt_8 : decode cX2_laidAt 8 = .ok (.imul, 1) := dk_104 (dk_at dksX2_laidAt_0 8 rfl rfl)
theorem dX2_laidAt_9 : decode cX2_laidAt 9 = .ok (.ireturn, 1) := dk_172 (dk_at dksX2_laidAt_0 9 rfl rfl)
abbrev cX2_laysLeaf : ByteArray := prog_10_method_59_code
def yX2_laysLeaf : MethodName := ⟨RX2, "laysLeaf", "(I)V"⟩
def dkwX2_laysLeaf_1 : List UInt8 := [42, 180, 0, 9, 6, 46, 27, 28, 182, 0, 243, 80, 132, 2, 1, 167, 255, 219, 177]
abbrev dktX2_laysLeaf_1 : List UInt8 := dkwX2_laysLeaf_1 ++ []
def dkwX2_laysLeaf_0 : List UInt8 := [3, 61, 28, 7, 163, 0, 38, 42, 180, 0, 34, 42, 180, 0, 9, 6, 46, 27, 184, 0, 247, 28, 96, 42]
abbrev dktX2_laysLeaf_0 : List UInt8 := dkwX2_laysLeaf_0 ++ dktX2_laysLeaf_1
theorem dksX2_laysLeaf_0 : cX2_laysLeaf.data.toList.drop 0 = dktX2_laysLeaf_0 := by decide +kernel
theorem dksX2_laysLeaf_1 : cX2_laysLeaf.data.toList.drop 24 = dktX2_laysLeaf_1 := dk_seg dksX2_laysLeaf_0 24 rfl rfl
theorem dX2_laysLeaf_0 : decode cX2_laysLeaf 0 = .ok (.iconst 0, 1) := dk_3 (dk_at dksX2_laysLeaf_0 0 rfl rfl)
theorem dX2_laysLeaf_1 : decode cX2_laysLeaf 1 = .ok (.istore_n 2, 1) := dk_61 (dk_at dksX2_laysLeaf_0 1 rfl rfl)
theorem dX2_laysLeaf_2 : decode cX2_laysLeaf 2 = .ok (.iload_n 2, 1) := dk_28 (dk_at dksX2_laysLeaf_0 2 rfl rfl)
theorem dX2_laysLeaf_3 : decode cX2_laysLeaf 3 = .ok (.iconst 4, 1) := dk_7 (dk_at dksX2_laysLeaf_0 3 rfl rfl)
theorem dX2_laysLeaf_4 : decode cX2_laysLeaf 4 = .ok (.if_icmp .gt 38, 3) := dk_163 0 38 (dk_at dksX2_laysLeaf_0 4 rfl rfl)
theorem dX2_laysLeaf_7 : decode cX2_laysLeaf 7 = .ok (.aload_n 0, 1) := dk_42 (dk_at dksX2_laysLeaf_0 7 rfl rfl)
theorem dX2_laysLeaf_8 : decode cX2_laysLeaf 8 = .ok (.getfield 34, 3) := dk_180 0 34 (dk_at dksX2_laysLeaf_0 8 rfl rfl)
theorem dX2_laysLeaf_11 : decode cX2_laysLeaf 11 = .ok (.aload_n 0, 1) := dk_42 (dk_at dksX2_laysLeaf_0 11 rfl rfl)
theorem dX2_laysLeaf_12 : decode cX2_laysLeaf 12 = .ok (.getfield 9, 3) := dk_180 0 9 (dk_at dksX2_laysLeaf_0 12 rfl rfl)
theorem dX2_laysLeaf_15 : decode cX2_laysLeaf 15 = .ok (.iconst 3, 1) := dk_6 (dk_at dksX2_laysLeaf_0 15 rfl rfl)
theorem dX2_laysLeaf_16 : decode cX2_laysLeaf 16 = .ok (.iaload, 1) := dk_46 (dk_at dksX2_laysLeaf_0 16 rfl rfl)
theorem dX2_laysLeaf_17 : decode cX2_laysLeaf 17 = .ok (.iload_n 1, 1) := dk_27 (dk_at dksX2_laysLeaf_0 17 rfl rfl)
theorem dX2_laysLeaf_18 : decode cX2_laysLeaf 18 = .ok (.invokestatic 247, 3) := dk_184 0 247 (dk_at dksX2_laysLeaf_0 18 rfl rfl)
theorem dX2_laysLeaf_21 : decode cX2_laysLeaf 21 = .ok (.iload_n 2, 1) := dk_28 (dk_at dksX2_laysLeaf_0 21 rfl rfl)
theorem dX2_laysLeaf_22 : decode cX2_laysLeaf 22 = .ok (.iadd, 1) := dk_96 (dk_at dksX2_laysLeaf_0 22 rfl rfl)
theorem dX2_laysLeaf_23 : decode cX2_laysLeaf 23 = .ok (.aload_n 0, 1) := dk_42 (dk_at dksX2_laysLeaf_0 23 rfl rfl)
theorem dX2_laysLeaf_24 : decode cX2_laysLeaf 24 = .ok (.aload_n 0, 1) := dk_42 (dk_at dksX2_laysLeaf_1 0 rfl rfl)
theorem dX2_laysLeaf_25 : decode cX2_laysLeaf 25 = .ok (.getfield 9, 3) := dk_180 0 9 (dk_at dksX2_laysLeaf_1 1 rfl rfl)
theorem dX2_laysLeaf_28 : decode cX2_laysLeaf 28 = .ok (.iconst 3, 1) := dk_6 (dk_at dksX2_laysLeaf_1 4 rfl rfl)
theorem dX2_laysLeaf_29 : decode cX2_laysLeaf 29 = .ok (.iaload, 1) := dk_46 (dk_at dksX2_laysLeaf_1 5 rfl rfl)
theorem dX2_laysLeaf_30 : decode cX2_laysLeaf 30 = .ok (.iload_n 1, 1) := dk_27 (dk_at dksX2_laysLeaf_1 6 rfl rfl)
theorem dX2_laysLeaf_31 : decode cX2_laysLeaf 31 = .ok (.iload_n 2, 1) := dk_28 (dk_at dksX2_laysLeaf_1 7 rfl rfl)
theorem dX2_laysLeaf_32 : decode cX2_laysLeaf 32 = .ok (.invokevirtual 243, 3) := dk_182 0 243 (dk_at dksX2_laysLeaf_1 8 rfl rfl)
theorem dX2_laysLeaf_35 : decode cX2_laysLeaf 35 = .ok (.lastore, 1) := dk_80 (dk_at dksX2_laysLeaf_1 11 rfl rfl)
theorem dX2_laysLeaf_36 : decode cX2_laysLeaf 36 = .ok (.iinc 2 1, 3) := dk_132 2 1 (dk_at dksX2_laysLeaf_1 12 rfl rfl)
theorem dX2_laysLeaf_39 : decode cX2_laysLeaf 39 = .ok (.goto (-37), 3) := dk_167 255 219 (dk_at dksX2_laysLeaf_1 15 rfl rfl)
theorem dX2_laysLeaf_42 : decode cX2_laysLeaf 42 = .ok (.return_, 1) := dk_177 (dk_at dksX2_laysLeaf_1 18 rfl rfl)
abbrev cX2_choose : ByteArray := prog_10_method_53_code
def yX2_choose : MethodName := ⟨RX2, "choose", "(II)I"⟩
def dkwX2_choose_1 : List UInt8 := [167, 255, 238, 28, 172]
abbrev dktX2_choose_1 : List UInt8 := dkwX2_choose_1 ++ []
def dkwX2_choose_0 : List UInt8 := [4, 61, 4, 62, 29, 27, 163, 0, 19, 28, 26, 27, 100, 29, 96, 104, 29, 108, 61, 132, 3, 1]
abbrev dktX2_choose_0 : List UInt8 := dkwX2_choose_0 ++ dktX2_choose_1
theorem dksX2_choose_0 : cX2_choose.data.toList.drop 0 = dktX2_choose_0 := by decide +kernel
theorem dksX2_choose_1 : cX2_choose.data.toList.drop 22 = dktX2_choose_1 := dk_seg dksX2_choose_0 22 rfl rfl
theorem dX2_choose_0 : decode cX2_choose 0 = .ok (.iconst 1, 1) := dk_4 (dk_at dksX2_choose_0 0 rfl rfl)
theorem dX2_choose_1 : decode cX2_choose 1 = .ok (.istore_n 2, 1) := dk_61 (dk_at dksX2_choose_0 1 rfl rfl)
theorem dX2_choose_2 : decode cX2_choose 2 = .ok (.iconst 1, 1) := dk_4 (dk_at dksX2_choose_0 2 rfl rfl)
theorem dX2_choose_3 : decode cX2_choose 3 = .ok (.istore_n 3, 1) := dk_62 (dk_at dksX2_choose_0 3 rfl rfl)
theorem dX2_choose_4 : decode cX2_choose 4 = .ok (.iload_n 3, 1) := dk_29 (dk_at dksX2_choose_0 4 rfl rfl)
theorem dX2_choose_5 : decode cX2_choose 5 = .ok (.iload_n 1, 1) := dk_27 (dk_at dksX2_choose_0 5 rfl rfl)
theorem dX2_choose_6 : decode cX2_choose 6 = .ok (.if_icmp .gt 19, 3) := dk_163 0 19 (dk_at dksX2_choose_0 6 rfl rfl)
theorem dX2_choose_9 : decode cX2_choose 9 = .ok (.iload_n 2, 1) := dk_28 (dk_at dksX2_choose_0 9 rfl rfl)
theorem dX2_choose_10 : decode cX2_choose 10 = .ok (.iload_n 0, 1) := dk_26 (dk_at dksX2_choose_0 10 rfl rfl)
theorem dX2_choose_11 : decode cX2_choose 11 = .ok (.iload_n 1, 1) := dk_27 (dk_at dksX2_choose_0 11 rfl rfl)
theorem dX2_choose_12 : decode cX2_choose 12 = .ok (.isub, 1) := dk_100 (dk_at dksX2_choose_0 12 rfl rfl)
theorem dX2_choose_13 : decode cX2_choose 13 = .ok (.iload_n 3, 1) := dk_29 (dk_at dksX2_choose_0 13 rfl rfl)
theorem dX2_choose_14 : decode cX2_choose 14 = .ok (.iadd, 1) := dk_96 (dk_at dksX2_choose_0 14 rfl rfl)
theorem dX2_choose_15 : decode cX2_choose 15 = .ok (.imul, 1) := dk_104 (dk_at dksX2_choose_0 15 rfl rfl)
theorem dX2_choose_16 : decode cX2_choose 16 = .ok (.iload_n 3, 1) := dk_29 (dk_at dksX2_choose_0 16 rfl rfl)
theorem dX2_choose_17 : decode cX2_choose 17 = .ok (.idiv, 1) := dk_108 (dk_at dksX2_choose_0 17 rfl rfl)
theorem dX2_choose_18 : decode cX2_choose 18 = .ok (.istore_n 2, 1) := dk_61 (dk_at dksX2_choose_0 18 rfl rfl)
theorem dX2_choose_19 : decode cX2_choose 19 = .ok (.iinc 3 1, 3) := dk_132 3 1 (dk_at dksX2_choose_0 19 rfl rfl)
theorem dX2_choose_22 : decode cX2_choose 22 = .ok (.goto (-18), 3) := dk_167 255 238 (dk_at dksX2_choose_1 0 rfl rfl)
theorem dX2_choose_25 : decode cX2_choose 25 = .ok (.iload_n 2, 1) := dk_28 (dk_at dksX2_choose_1 3 rfl rfl)
theorem dX2_choose_26 : decode cX2_choose 26 = .ok (.ireturn, 1) := dk_172 (dk_at dksX2_choose_1 4 rfl rfl)
abbrev cX2_shiftOf : ByteArray := prog_10_method_60_code
def yX2_shiftOf : MethodName := ⟨RX2, "shiftOf", "(IIII)J"⟩
def dkwX2_shiftOf_3 : List UInt8 := [132, 8, 1, 167, 255, 205, 22, 5, 173]
abbrev dktX2_shiftOf_3 : List UInt8 := dkwX2_shiftOf_3 ++ []
def dkwX2_shiftOf_2 : List UInt8 := [184, 0, 247, 21, 8, 96, 47, 105, 21, 7, 133, 21, 4, 21, 8, 100, 184, 0, 233, 105, 97, 55, 5]
abbrev dktX2_shiftOf_2 : List UInt8 := dkwX2_shiftOf_2 ++ dktX2_shiftOf_3
def dkwX2_shiftOf_1 : List UInt8 := [21, 4, 163, 0, 50, 22, 5, 21, 4, 21, 8, 184, 0, 250, 133, 42, 180, 0, 34, 27, 4, 96, 29]
abbrev dktX2_shiftOf_1 : List UInt8 := dkwX2_shiftOf_1 ++ dktX2_shiftOf_2
def dkwX2_shiftOf_0 : List UInt8 := [9, 55, 5, 27, 4, 96, 29, 184, 0, 226, 27, 28, 184, 0, 226, 100, 54, 7, 3, 54, 8, 21, 8]
abbrev dktX2_shiftOf_0 : List UInt8 := dkwX2_shiftOf_0 ++ dktX2_shiftOf_1
theorem dksX2_shiftOf_0 : cX2_shiftOf.data.toList.drop 0 = dktX2_shiftOf_0 := by decide +kernel
theorem dksX2_shiftOf_1 : cX2_shiftOf.data.toList.drop 23 = dktX2_shiftOf_1 := dk_seg dksX2_shiftOf_0 23 rfl rfl
theorem dksX2_shiftOf_2 : cX2_shiftOf.data.toList.drop 46 = dktX2_shiftOf_2 := dk_seg dksX2_shiftOf_1 23 rfl rfl
theorem dksX2_shiftOf_3 : cX2_shiftOf.data.toList.drop 69 = dktX2_shiftOf_3 := dk_seg dksX2_shiftOf_2 23 rfl rfl
theorem dX2_shiftOf_0 : decode cX2_shiftOf 0 = .ok (.lconst 0, 1) := dk_9 (dk_at dksX2_shiftOf_0 0 rfl rfl)
theorem dX2_shiftOf_1 : decode cX2_shiftOf 1 = .ok (.lstore 5, 2) := dk_55 5 (dk_at dksX2_shiftOf_0 1 rfl rfl)
theorem dX2_shiftOf_3 : decode cX2_shiftOf 3 = .ok (.iload_n 1, 1) := dk_27 (dk_at dksX2_shiftOf_0 3 rfl rfl)
theorem dX2_shiftOf_4 : decode cX2_shiftOf 4 = .ok (.iconst 1, 1) := dk_4 (dk_at dksX2_shiftOf_0 4 rfl rfl)
theorem dX2_shiftOf_5 : decode cX2_shiftOf 5 = .ok (.iadd, 1) := dk_96 (dk_at dksX2_shiftOf_0 5 rfl rfl)
theorem dX2_shiftOf_6 : decode cX2_shiftOf 6 = .ok (.iload_n 3, 1) := dk_29 (dk_at dksX2_shiftOf_0 6 rfl rfl)
theorem dX2_shiftOf_7 : decode cX2_shiftOf 7 = .ok (.invokestatic 226, 3) := dk_184 0 226 (dk_at dksX2_shiftOf_0 7 rfl rfl)
theorem dX2_shiftOf_10 : decode cX2_shiftOf 10 = .ok (.iload_n 1, 1) := dk_27 (dk_at dksX2_shiftOf_0 10 rfl rfl)
theorem dX2_shiftOf_11 : decode cX2_shiftOf 11 = .ok (.iload_n 2, 1) := dk_28 (dk_at dksX2_shiftOf_0 11 rfl rfl)
theorem dX2_shiftOf_12 : decode cX2_shiftOf 12 = .ok (.invokestatic 226, 3) := dk_184 0 226 (dk_at dksX2_shiftOf_0 12 rfl rfl)
theorem dX2_shiftOf_15 : decode cX2_shiftOf 15 = .ok (.isub, 1) := dk_100 (dk_at dksX2_shiftOf_0 15 rfl rfl)
theorem dX2_shiftOf_16 : decode cX2_shiftOf 16 = .ok (.istore 7, 2) := dk_54 7 (dk_at dksX2_shiftOf_0 16 rfl rfl)
theorem dX2_shiftOf_18 : decode cX2_shiftOf 18 = .ok (.iconst 0, 1) := dk_3 (dk_at dksX2_shiftOf_0 18 rfl rfl)
theorem dX2_shiftOf_19 : decode cX2_shiftOf 19 = .ok (.istore 8, 2) := dk_54 8 (dk_at dksX2_shiftOf_0 19 rfl rfl)
theorem dX2_shiftOf_21 : decode cX2_shiftOf 21 = .ok (.iload 8, 2) := dk_21 8 (dk_at dksX2_shiftOf_0 21 rfl rfl)
theorem dX2_shiftOf_23 : decode cX2_shiftOf 23 = .ok (.iload 4, 2) := dk_21 4 (dk_at dksX2_shiftOf_1 0 rfl rfl)
theorem dX2_shiftOf_25 : decode cX2_shiftOf 25 = .ok (.if_icmp .gt 50, 3) := dk_163 0 50 (dk_at dksX2_shiftOf_1 2 rfl rfl)
theorem dX2_shiftOf_28 : decode cX2_shiftOf 28 = .ok (.lload 5, 2) := dk_22 5 (dk_at dksX2_shiftOf_1 5 rfl rfl)
theorem dX2_shiftOf_30 : decode cX2_shiftOf 30 = .ok (.iload 4, 2) := dk_21 4 (dk_at dksX2_shiftOf_1 7 rfl rfl)
theorem dX2_shiftOf_32 : decode cX2_shiftOf 32 = .ok (.iload 8, 2) := dk_21 8 (dk_at dksX2_shiftOf_1 9 rfl rfl)
theorem dX2_shiftOf_34 : decode cX2_shiftOf 34 = .ok (.invokestatic 250, 3) := dk_184 0 250 (dk_at dksX2_shiftOf_1 11 rfl rfl)
theorem dX2_shiftOf_37 : decode cX2_shiftOf 37 = .ok (.i2l, 1) := dk_133 (dk_at dksX2_shiftOf_1 14 rfl rfl)
theorem dX2_shiftOf_38 : decode cX2_shiftOf 38 = .ok (.aload_n 0, 1) := dk_42 (dk_at dksX2_shiftOf_1 15 rfl rfl)
theorem dX2_shiftOf_39 : decode cX2_shiftOf 39 = .ok (.getfield 34, 3) := dk_180 0 34 (dk_at dksX2_shiftOf_1 16 rfl rfl)
theorem dX2_shiftOf_42 : decode cX2_shiftOf 42 = .ok (.iload_n 1, 1) := dk_27 (dk_at dksX2_shiftOf_1 19 rfl rfl)
theorem dX2_shiftOf_43 : decode cX2_shiftOf 43 = .ok (.iconst 1, 1) := dk_4 (dk_at dksX2_shiftOf_1 20 rfl rfl)
theorem dX2_shiftOf_44 : decode cX2_shiftOf 44 = .ok (.iadd, 1) := dk_96 (dk_at dksX2_shiftOf_1 21 rfl rfl)
theorem dX2_shiftOf_45 : decode cX2_shiftOf 45 = .ok (.iload_n 3, 1) := dk_29 (dk_at dksX2_shiftOf_1 22 rfl rfl)
theorem dX2_shiftOf_46 : decode cX2_shiftOf 46 = .ok (.invokestatic 247, 3) := dk_184 0 247 (dk_at dksX2_shiftOf_2 0 rfl rfl)
theorem dX2_shiftOf_49 : decode cX2_shiftOf 49 = .ok (.iload 8, 2) := dk_21 8 (dk_at dksX2_shiftOf_2 3 rfl rfl)
theorem dX2_shiftOf_51 : decode cX2_shiftOf 51 = .ok (.iadd, 1) := dk_96 (dk_at dksX2_shiftOf_2 5 rfl rfl)
theorem dX2_shiftOf_52 : decode cX2_shiftOf 52 = .ok (.laload, 1) := dk_47 (dk_at dksX2_shiftOf_2 6 rfl rfl)
theorem dX2_shiftOf_53 : decode cX2_shiftOf 53 = .ok (.lmul, 1) := dk_105 (dk_at dksX2_shiftOf_2 7 rfl rfl)
theorem dX2_shiftOf_54 : decode cX2_shiftOf 54 = .ok (.iload 7, 2) := dk_21 7 (dk_at dksX2_shiftOf_2 8 rfl rfl)
theorem dX2_shiftOf_56 : decode cX2_shiftOf 56 = .ok (.i2l, 1) := dk_133 (dk_at dksX2_shiftOf_2 10 rfl rfl)
theorem dX2_shiftOf_57 : decode cX2_shiftOf 57 = .ok (.iload 4, 2) := dk_21 4 (dk_at dksX2_shiftOf_2 11 rfl rfl)
theorem dX2_shiftOf_59 : decode cX2_shiftOf 59 = .ok (.iload 8, 2) := dk_21 8 (dk_at dksX2_shiftOf_2 13 rfl rfl)
theorem dX2_shiftOf_61 : decode cX2_shiftOf 61 = .ok (.isub, 1) := dk_100 (dk_at dksX2_shiftOf_2 15 rfl rfl)
theorem dX2_shiftOf_62 : decode cX2_shiftOf 62 = .ok (.invokestatic 233, 3) := dk_184 0 233 (dk_at dksX2_shiftOf_2 16 rfl rfl)
theorem dX2_shiftOf_65 : decode cX2_shiftOf 65 = .ok (.lmul, 1) := dk_105 (dk_at dksX2_shiftOf_2 19 rfl rfl)
theorem dX2_shiftOf_66 : decode cX2_shiftOf 66 = .ok (.ladd, 1) := dk_97 (dk_at dksX2_shiftOf_2 20 rfl rfl)
theorem dX2_shiftOf_67 : decode cX2_shiftOf 67 = .ok (.lstore 5, 2) := dk_55 5 (dk_at dksX2_shiftOf_2 21 rfl rfl)
theorem dX2_shiftOf_69 : decode cX2_shiftOf 69 = .ok (.iinc 8 1, 3) := dk_132 8 1 (dk_at dksX2_shiftOf_3 0 rfl rfl)
theorem dX2_shiftOf_72 : decode cX2_shiftOf 72 = .ok (.goto (-51), 3) := dk_167 255 205 (dk_at dksX2_shiftOf_3 3 rfl rfl)
theorem dX2_shiftOf_75 : decode cX2_shiftOf 75 = .ok (.lload 5, 2) := dk_22 5 (dk_at dksX2_shiftOf_3 6 rfl rfl)
theorem dX2_shiftOf_77 : decode cX2_shiftOf 77 = .ok (.lreturn, 1) := dk_173 (dk_at dksX2_shiftOf_3 8 rfl rfl)
abbrev cX2_laysMoments : ByteArray := prog_10_method_61_code
def yX2_laysMoments : MethodName := ⟨RX2, "laysMoments", "()V"⟩
def dkwX2_laysMoments_4 : List UInt8 := [167, 255, 213, 132, 2, 1, 167, 255, 198, 132, 1, 255, 167, 255, 186, 177]
abbrev dktX2_laysMoments_4 : List UInt8 := dkwX2_laysMoments_4 ++ []
def dkwX2_laysMoments_3 : List UInt8 := [5, 28, 104, 29, 182, 1, 0, 42, 27, 28, 5, 28, 104, 4, 96, 29, 182, 1, 0, 97, 80, 132, 3, 1]
abbrev dktX2_laysMoments_3 : List UInt8 := dkwX2_laysMoments_3 ++ dktX2_laysMoments_4
def dkwX2_laysMoments_2 : List UInt8 := [162, 0, 57, 3, 62, 29, 7, 163, 0, 44, 42, 180, 0, 34, 27, 28, 184, 0, 247, 29, 96, 42, 27, 28]
abbrev dktX2_laysMoments_2 : List UInt8 := dkwX2_laysMoments_2 ++ dktX2_laysMoments_3
def dkwX2_laysMoments_1 : List UInt8 := [167, 255, 236, 42, 180, 0, 9, 6, 46, 4, 100, 60, 27, 155, 0, 72, 3, 61, 28, 4, 27, 120]
abbrev dktX2_laysMoments_1 : List UInt8 := dkwX2_laysMoments_1 ++ dktX2_laysMoments_2
def dkwX2_laysMoments_0 : List UInt8 := [3, 60, 27, 4, 42, 180, 0, 9, 6, 46, 120, 162, 0, 14, 42, 27, 182, 0, 253, 132, 1, 1]
abbrev dktX2_laysMoments_0 : List UInt8 := dkwX2_laysMoments_0 ++ dktX2_laysMoments_1
theorem dksX2_laysMoments_0 : cX2_laysMoments.data.toList.drop 0 = dktX2_laysMoments_0 := by decide +kernel
theorem dksX2_laysMoments_1 : cX2_laysMoments.data.toList.drop 22 = dktX2_laysMoments_1 := dk_seg dksX2_laysMoments_0 22 rfl rfl
theorem dksX2_laysMoments_2 : cX2_laysMoments.data.toList.drop 44 = dktX2_laysMoments_2 := dk_seg dksX2_laysMoments_1 22 rfl rfl
theorem dksX2_laysMoments_3 : cX2_laysMoments.data.toList.drop 68 = dktX2_laysMoments_3 := dk_seg dksX2_laysMoments_2 24 rfl rfl
theorem dksX2_laysMoments_4 : cX2_laysMoments.data.toList.drop 92 = dktX2_laysMoments_4 := dk_seg dksX2_laysMoments_3 24 rfl rfl
theorem dX2_laysMoments_0 : decode cX2_laysMoments 0 = .ok (.iconst 0, 1) := dk_3 (dk_at dksX2_laysMoments_0 0 rfl rfl)
theorem dX2_laysMoments_1 : decode cX2_laysMoments 1 = .ok (.istore_n 1, 1) := dk_60 (dk_at dksX2_laysMoments_0 1 rfl rfl)
theorem dX2_laysMoments_2 : decode cX2_laysMoments 2 = .ok (.iload_n 1, 1) := dk_27 (dk_at dksX2_laysMoments_0 2 rfl rfl)
theorem dX2_laysMoments_3 : decode cX2_laysMoments 3 = .ok (.iconst 1, 1) := dk_4 (dk_at dksX2_laysMoments_0 3 rfl rfl)
theorem dX2_laysMoments_4 : decode cX2_laysMoments 4 = .ok (.aload_n 0, 1) := dk_42 (dk_at dksX2_laysMoments_0 4 rfl rfl)
theorem dX2_laysMoments_5 : decode cX2_laysMoments 5 = .ok (.getfield 9, 3) := dk_180 0 9 (dk_at dksX2_laysMoments_0 5 rfl rfl)
theorem dX2_laysMoments_8 : decode cX2_laysMoments 8 = .ok (.iconst 3, 1) := dk_6 (dk_at dksX2_laysMoments_0 8 rfl rfl)
theorem dX2_laysMoments_9 : decode cX2_laysMoments 9 = .ok (.iaload, 1) := dk_46 (dk_at dksX2_laysMoments_0 9 rfl rfl)
theorem dX2_laysMoments_10 : decode cX2_laysMoments 10 = .ok (.ishl, 1) := dk_120 (dk_at dksX2_laysMoments_0 10 rfl rfl)
theorem dX2_laysMoments_11 : decode cX2_laysMoments 11 = .ok (.if_icmp .ge 14, 3) := dk_162 0 14 (dk_at dksX2_laysMoments_0 11 rfl rfl)
theorem dX2_laysMoments_14 : decode cX2_laysMoments 14 = .ok (.aload_n 0, 1) := dk_42 (dk_at dksX2_laysMoments_0 14 rfl rfl)
theorem dX2_laysMoments_15 : decode cX2_laysMoments 15 = .ok (.iload_n 1, 1) := dk_27 (dk_at dksX2_laysMoments_0 15 rfl rfl)
theorem dX2_laysMoments_16 : decode cX2_laysMoments 16 = .ok (.invokevirtual 253, 3) := dk_182 0 253 (dk_at dksX2_laysMoments_0 16 rfl rfl)
theorem dX2_laysMoments_19 : decode cX2_laysMoments 19 = .ok (.iinc 1 1, 3) := dk_132 1 1 (dk_at dksX2_laysMoments_0 19 rfl rfl)
theorem dX2_laysMoments_22 : decode cX2_laysMoments 22 = .ok (.goto (-20), 3) := dk_167 255 236 (dk_at dksX2_laysMoments_1 0 rfl rfl)
theorem dX2_laysMoments_25 : decode cX2_laysMoments 25 = .ok (.aload_n 0, 1) := dk_42 (dk_at dksX2_laysMoments_1 3 rfl rfl)
theorem dX2_laysMoments_26 : decode cX2_laysMoments 26 = .ok (.getfield 9, 3) := dk_180 0 9 (dk_at dksX2_laysMoments_1 4 rfl rfl)
theorem dX2_laysMoments_29 : decode cX2_laysMoments 29 = .ok (.iconst 3, 1) := dk_6 (dk_at dksX2_laysMoments_1 7 rfl rfl)
theorem dX2_laysMoments_30 : decode cX2_laysMoments 30 = .ok (.iaload, 1) := dk_46 (dk_at dksX2_laysMoments_1 8 rfl rfl)
theorem dX2_laysMoments_31 : decode cX2_laysMoments 31 = .ok (.iconst 1, 1) := dk_4 (dk_at dksX2_laysMoments_1 9 rfl rfl)
theorem dX2_laysMoments_32 : decode cX2_laysMoments 32 = .ok (.isub, 1) := dk_100 (dk_at dksX2_laysMoments_1 10 rfl rfl)
theorem dX2_laysMoments_33 : decode cX2_laysMoments 33 = .ok (.istore_n 1, 1) := dk_60 (dk_at dksX2_laysMoments_1 11 rfl rfl)
theorem dX2_laysMoments_34 : decode cX2_laysMoments 34 = .ok (.iload_n 1, 1) := dk_27 (dk_at dksX2_laysMoments_1 12 rfl rfl)
theorem dX2_laysMoments_35 : decode cX2_laysMoments 35 = .ok (.ifCond .lt 72, 3) := dk_155 0 72 (dk_at dksX2_laysMoments_1 13 rfl rfl)
theorem dX2_laysMoments_38 : decode cX2_laysMoments 38 = .ok (.iconst 0, 1) := dk_3 (dk_at dksX2_laysMoments_1 16 rfl rfl)
theorem dX2_laysMoments_39 : decode cX2_laysMoments 39 = .ok (.istore_n 2, 1) := dk_61 (dk_at dksX2_laysMoments_1 17 rfl rfl)
theorem dX2_laysMoments_40 : decode cX2_laysMoments 40 = .ok (.iload_n 2, 1) := dk_28 (dk_at dksX2_laysMoments_1 18 rfl rfl)
theorem dX2_laysMoments_41 : decode cX2_laysMoments 41 = .ok (.iconst 1, 1) := dk_4 (dk_at dksX2_laysMoments_1 19 rfl rfl)
theorem dX2_laysMoments_42 : decode cX2_laysMoments 42 = .ok (.iload_n 1, 1) := dk_27 (dk_at dksX2_laysMoments_1 20 rfl rfl)
theorem dX2_laysMoments_43 : decode cX2_laysMoments 43 = .ok (.ishl, 1) := dk_120 (dk_at dksX2_laysMoments_1 21 rfl rfl)
theorem dX2_laysMoments_44 : decode cX2_laysMoments 44 = .ok (.if_icmp .ge 57, 3) := dk_162 0 57 (dk_at dksX2_laysMoments_2 0 rfl rfl)
theorem dX2_laysMoments_47 : decode cX2_laysMoments 47 = .ok (.iconst 0, 1) := dk_3 (dk_at dksX2_laysMoments_2 3 rfl rfl)
theorem dX2_laysMoments_48 : decode cX2_laysMoments 48 = .ok (.istore_n 3, 1) := dk_62 (dk_at dksX2_laysMoments_2 4 rfl rfl)
theorem dX2_laysMoments_49 : decode cX2_laysMoments 49 = .ok (.iload_n 3, 1) := dk_29 (dk_at dksX2_laysMoments_2 5 rfl rfl)
theorem dX2_laysMoments_50 : decode cX2_laysMoments 50 = .ok (.iconst 4, 1) := dk_7 (dk_at dksX2_laysMoments_2 6 rfl rfl)
theorem dX2_laysMoments_51 : decode cX2_laysMoments 51 = .ok (.if_icmp .gt 44, 3) := dk_163 0 44 (dk_at dksX2_laysMoments_2 7 rfl rfl)
theorem dX2_laysMoments_54 : decode cX2_laysMoments 54 = .ok (.aload_n 0, 1) := dk_42 (dk_at dksX2_laysMoments_2 10 rfl rfl)
theorem dX2_laysMoments_55 : decode cX2_laysMoments 55 = .ok (.getfield 34, 3) := dk_180 0 34 (dk_at dksX2_laysMoments_2 11 rfl rfl)
theorem dX2_laysMoments_58 : decode cX2_laysMoments 58 = .ok (.iload_n 1, 1) := dk_27 (dk_at dksX2_laysMoments_2 14 rfl rfl)
theorem dX2_laysMoments_59 : decode cX2_laysMoments 59 = .ok (.iload_n 2, 1) := dk_28 (dk_at dksX2_laysMoments_2 15 rfl rfl)
theorem dX2_laysMoments_60 : decode cX2_laysMoments 60 = .ok (.invokestatic 247, 3) := dk_184 0 247 (dk_at dksX2_laysMoments_2 16 rfl rfl)
theorem dX2_laysMoments_63 : decode cX2_laysMoments 63 = .ok (.iload_n 3, 1) := dk_29 (dk_at dksX2_laysMoments_2 19 rfl rfl)
theorem dX2_laysMoments_64 : decode cX2_laysMoments 64 = .ok (.iadd, 1) := dk_96 (dk_at dksX2_laysMoments_2 20 rfl rfl)
theorem dX2_laysMoments_65 : decode cX2_laysMoments 65 = .ok (.aload_n 0, 1) := dk_42 (dk_at dksX2_laysMoments_2 21 rfl rfl)
theorem dX2_laysMoments_66 : decode cX2_laysMoments 66 = .ok (.iload_n 1, 1) := dk_27 (dk_at dksX2_laysMoments_2 22 rfl rfl)
theorem dX2_laysMoments_67 : decode cX2_laysMoments 67 = .ok (.iload_n 2, 1) := dk_28 (dk_at dksX2_laysMoments_2 23 rfl rfl)
theorem dX2_laysMoments_68 : decode cX2_laysMoments 68 = .ok (.iconst 2, 1) := dk_5 (dk_at dksX2_laysMoments_3 0 rfl rfl)
theorem dX2_laysMoments_69 : decode cX2_laysMoments 69 = .ok (.iload_n 2, 1) := dk_28 (dk_at dksX2_laysMoments_3 1 rfl rfl)
theorem dX2_laysMoments_70 : decode cX2_laysMoments 70 = .ok (.imul, 1) := dk_104 (dk_at dksX2_laysMoments_3 2 rfl rfl)
theorem dX2_laysMoments_71 : decode cX2_laysMoments 71 = .ok (.iload_n 3, 1) := dk_29 (dk_at dksX2_laysMoments_3 3 rfl rfl)
theorem dX2_laysMoments_72 : decode cX2_laysMoments 72 = .ok (.invokevirtual 256, 3) := dk_182 1 0 (dk_at dksX2_laysMoments_3 4 rfl rfl)
theorem dX2_laysMoments_75 : decode cX2_laysMoments 75 = .ok (.aload_n 0, 1) := dk_42 (dk_at dksX2_laysMoments_3 7 rfl rfl)
theorem dX2_laysMoments_76 : decode cX2_laysMoments 76 = .ok (.iload_n 1, 1) := dk_27 (dk_at dksX2_laysMoments_3 8 rfl rfl)
theorem dX2_laysMoments_77 : decode cX2_laysMoments 77 = .ok (.iload_n 2, 1) := dk_28 (dk_at dksX2_laysMoments_3 9 rfl rfl)
theorem dX2_laysMoments_78 : decode cX2_laysMoments 78 = .ok (.iconst 2, 1) := dk_5 (dk_at dksX2_laysMoments_3 10 rfl rfl)
theorem dX2_laysMoments_79 : decode cX2_laysMoments 79 = .ok (.iload_n 2, 1) := dk_28 (dk_at dksX2_laysMoments_3 11 rfl rfl)
theorem dX2_laysMoments_80 : decode cX2_laysMoments 80 = .ok (.imul, 1) := dk_104 (dk_at dksX2_laysMoments_3 12 rfl rfl)
theorem dX2_laysMoments_81 : decode cX2_laysMoments 81 = .ok (.iconst 1, 1) := dk_4 (dk_at dksX2_laysMoments_3 13 rfl rfl)
theorem dX2_laysMoments_82 : decode cX2_laysMoments 82 = .ok (.iadd, 1) := dk_96 (dk_at dksX2_laysMoments_3 14 rfl rfl)
theorem dX2_laysMoments_83 : decode cX2_laysMoments 83 = .ok (.iload_n 3, 1) := dk_29 (dk_at dksX2_laysMoments_3 15 rfl rfl)
theorem dX2_laysMoments_84 : decode cX2_laysMoments 84 = .ok (.invokevirtual 256, 3) := dk_182 1 0 (dk_at dksX2_laysMoments_3 16 rfl rfl)
theorem dX2_laysMoments_87 : decode cX2_laysMoments 87 = .ok (.ladd, 1) := dk_97 (dk_at dksX2_laysMoments_3 19 rfl rfl)
theorem dX2_laysMoments_88 : decode cX2_laysMoments 88 = .ok (.lastore, 1) := dk_80 (dk_at dksX2_laysMoments_3 20 rfl rfl)
theorem dX2_laysMoments_89 : decode cX2_laysMoments 89 = .ok (.iinc 3 1, 3) := dk_132 3 1 (dk_at dksX2_laysMoments_3 21 rfl rfl)
theorem dX2_laysMoments_92 : decode cX2_laysMoments 92 = .ok (.goto (-43), 3) := dk_167 255 213 (dk_at dksX2_laysMoments_4 0 rfl rfl)
theorem dX2_laysMoments_95 : decode cX2_laysMoments 95 = .ok (.iinc 2 1, 3) := dk_132 2 1 (dk_at dksX2_laysMoments_4 3 rfl rfl)
theorem dX2_laysMoments_98 : decode cX2_laysMoments 98 = .ok (.goto (-58), 3) := dk_167 255 198 (dk_at dksX2_laysMoments_4 6 rfl rfl)
theorem dX2_laysMoments_101 : decode cX2_laysMoments 101 = .ok (.iinc 1 (-1), 3) := dk_132 1 255 (dk_at dksX2_laysMoments_4 9 rfl rfl)
theorem dX2_laysMoments_104 : decode cX2_laysMoments 104 = .ok (.goto (-70), 3) := dk_167 255 186 (dk_at dksX2_laysMoments_4 12 rfl rfl)
theorem dX2_laysMoments_107 : decode cX2_laysMoments 107 = .ok (.return_, 1) := dk_177 (dk_at dksX2_laysMoments_4 15 rfl rfl)
abbrev cX2_shifted : ByteArray := prog_10_method_62_code
def yX2_shifted : MethodName := ⟨RX2, "shifted", "(III)J"⟩
def dkwX2_shifted_1 : List UInt8 := [184, 0, 247, 29, 96, 47, 173]
abbrev dktX2_shifted_1 : List UInt8 := dkwX2_shifted_1 ++ []
def dkwX2_shifted_0 : List UInt8 := [42, 27, 28, 29, 182, 0, 240, 154, 0, 5, 9, 173, 42, 182, 1, 4, 42, 180, 0, 34, 27, 28]
abbrev dktX2_shifted_0 : List UInt8 := dkwX2_shifted_0 ++ dktX2_shifted_1
theorem dksX2_shifted_0 : cX2_shifted.data.toList.drop 0 = dktX2_shifted_0 := by decide +kernel
theorem dksX2_shifted_1 : cX2_shifted.data.toList.drop 22 = dktX2_shifted_1 := dk_seg dksX2_shifted_0 22 rfl rfl
theorem dX2_shifted_0 : decode cX2_shifted 0 = .ok (.aload_n 0, 1) := dk_42 (dk_at dksX2_shifted_0 0 rfl rfl)
theorem dX2_shifted_1 : decode cX2_shifted 1 = .ok (.iload_n 1, 1) := dk_27 (dk_at dksX2_shifted_0 1 rfl rfl)
theorem dX2_shifted_2 : decode cX2_shifted 2 = .ok (.iload_n 2, 1) := dk_28 (dk_at dksX2_shifted_0 2 rfl rfl)
theorem dX2_shifted_3 : decode cX2_shifted 3 = .ok (.iload_n 3, 1) := dk_29 (dk_at dksX2_shifted_0 3 rfl rfl)
theorem dX2_shifted_4 : decode cX2_shifted 4 = .ok (.invokevirtual 240, 3) := dk_182 0 240 (dk_at dksX2_shifted_0 4 rfl rfl)
theorem dX2_shifted_7 : decode cX2_shifted 7 = .ok (.ifCond .ne 5, 3) := dk_154 0 5 (dk_at dksX2_shifted_0 7 rfl rfl)
theorem dX2_shifted_10 : decode cX2_shifted 10 = .ok (.lconst 0, 1) := dk_9 (dk_at dksX2_shifted_0 10 rfl rfl)
theorem dX2_shifted_11 : decode cX2_shifted 11 = .ok (.lreturn, 1) := dk_173 (dk_at dksX2_shifted_0 11 rfl rfl)
theorem dX2_shifted_12 : decode cX2_shifted 12 = .ok (.aload_n 0, 1) := dk_42 (dk_at dksX2_shifted_0 12 rfl rfl)
theorem dX2_shifted_13 : decode cX2_shifted 13 = .ok (.invokevirtual 260, 3) := dk_182 1 4 (dk_at dksX2_shifted_0 13 rfl rfl)
theorem dX2_shifted_16 : decode cX2_shifted 16 = .ok (.aload_n 0, 1) := dk_42 (dk_at dksX2_shifted_0 16 rfl rfl)
theorem dX2_shifted_17 : decode cX2_shifted 17 = .ok (.getfield 34, 3) := dk_180 0 34 (dk_at dksX2_shifted_0 17 rfl rfl)
theorem dX2_shifted_20 : decode cX2_shifted 20 = .ok (.iload_n 1, 1) := dk_27 (dk_at dksX2_shifted_0 20 rfl rfl)
theorem dX2_shifted_21 : decode cX2_shifted 21 = .ok (.iload_n 2, 1) := dk_28 (dk_at dksX2_shifted_0 21 rfl rfl)
theorem dX2_shifted_22 : decode cX2_shifted 22 = .ok (.invokestatic 247, 3) := dk_184 0 247 (dk_at dksX2_shifted_1 0 rfl rfl)
theorem dX2_shifted_25 : decode cX2_shifted 25 = .ok (.iload_n 3, 1) := dk_29 (dk_at dksX2_shifted_1 3 rfl rfl)
theorem dX2_shifted_26 : decode cX2_shifted 26 = .ok (.iadd, 1) := dk_96 (dk_at dksX2_shifted_1 4 rfl rfl)
theorem dX2_shifted_27 : decode cX2_shifted 27 = .ok (.laload, 1) := dk_47 (dk_at dksX2_shifted_1 5 rfl rfl)
theorem dX2_shifted_28 : decode cX2_shifted 28 = .ok (.lreturn, 1) := dk_173 (dk_at dksX2_shifted_1 6 rfl rfl)
abbrev cX2_momentGap : ByteArray := prog_10_method_63_code
def yX2_momentGap : MethodName := ⟨RX2, "momentGap", "()J"⟩
def dkwX2_momentGap_4 : List UInt8 := [167, 255, 203, 132, 4, 1, 167, 255, 186, 132, 3, 1, 167, 255, 167, 31, 173]
abbrev dktX2_momentGap_4 : List UInt8 := dkwX2_momentGap_4 ++ []
def dkwX2_momentGap_3 : List UInt8 := [55, 6, 31, 22, 6, 9, 148, 156, 0, 9, 22, 6, 117, 167, 0, 5, 22, 6, 97, 64, 132, 5, 1]
abbrev dktX2_momentGap_3 : List UInt8 := dkwX2_momentGap_3 ++ dktX2_momentGap_4
def dkwX2_momentGap_2 : List UInt8 := [29, 21, 4, 21, 5, 182, 0, 243, 42, 180, 0, 34, 29, 21, 4, 184, 0, 247, 21, 5, 96, 47, 101]
abbrev dktX2_momentGap_2 : List UInt8 := dkwX2_momentGap_2 ++ dktX2_momentGap_3
def dkwX2_momentGap_1 : List UInt8 := [163, 0, 85, 3, 54, 4, 21, 4, 4, 29, 120, 162, 0, 68, 3, 54, 5, 21, 5, 7, 163, 0, 53, 42]
abbrev dktX2_momentGap_1 : List UInt8 := dkwX2_momentGap_1 ++ dktX2_momentGap_2
def dkwX2_momentGap_0 : List UInt8 := [42, 182, 0, 229, 154, 0, 5, 9, 173, 42, 182, 1, 4, 9, 64, 3, 62, 29, 42, 180, 0, 9, 6, 46]
abbrev dktX2_momentGap_0 : List UInt8 := dkwX2_momentGap_0 ++ dktX2_momentGap_1
theorem dksX2_momentGap_0 : cX2_momentGap.data.toList.drop 0 = dktX2_momentGap_0 := by decide +kernel
theorem dksX2_momentGap_1 : cX2_momentGap.data.toList.drop 24 = dktX2_momentGap_1 := dk_seg dksX2_momentGap_0 24 rfl rfl
theorem dksX2_momentGap_2 : cX2_momentGap.data.toList.drop 48 = dktX2_momentGap_2 := dk_seg dksX2_momentGap_1 24 rfl rfl
theorem dksX2_momentGap_3 : cX2_momentGap.data.toList.drop 71 = dktX2_momentGap_3 := dk_seg dksX2_momentGap_2 23 rfl rfl
theorem dksX2_momentGap_4 : cX2_momentGap.data.toList.drop 94 = dktX2_momentGap_4 := dk_seg dksX2_momentGap_3 23 rfl rfl
theorem dX2_momentGap_0 : decode cX2_momentGap 0 = .ok (.aload_n 0, 1) := dk_42 (dk_at dksX2_momentGap_0 0 rfl rfl)
theorem dX2_momentGap_1 : decode cX2_momentGap 1 = .ok (.invokevirtual 229, 3) := dk_182 0 229 (dk_at dksX2_momentGap_0 1 rfl rfl)
theorem dX2_momentGap_4 : decode cX2_momentGap 4 = .ok (.ifCond .ne 5, 3) := dk_154 0 5 (dk_at dksX2_momentGap_0 4 rfl rfl)
theorem dX2_momentGap_7 : decode cX2_momentGap 7 = .ok (.lconst 0, 1) := dk_9 (dk_at dksX2_momentGap_0 7 rfl rfl)
theorem dX2_momentGap_8 : decode cX2_momentGap 8 = .ok (.lreturn, 1) := dk_173 (dk_at dksX2_momentGap_0 8 rfl rfl)
theorem dX2_momentGap_9 : decode cX2_momentGap 9 = .ok (.aload_n 0, 1) := dk_42 (dk_at dksX2_momentGap_0 9 rfl rfl)
theorem dX2_momentGap_10 : decode cX2_momentGap 10 = .ok (.invokevirtual 260, 3) := dk_182 1 4 (dk_at dksX2_momentGap_0 10 rfl rfl)
theorem dX2_momentGap_13 : decode cX2_momentGap 13 = .ok (.lconst 0, 1) := dk_9 (dk_at dksX2_momentGap_0 13 rfl rfl)
theorem dX2_momentGap_14 : decode cX2_momentGap 14 = .ok (.lstore_n 1, 1) := dk_64 (dk_at dksX2_momentGap_0 14 rfl rfl)
theorem dX2_momentGap_15 : decode cX2_momentGap 15 = .ok (.iconst 0, 1) := dk_3 (dk_at dksX2_momentGap_0 15 rfl rfl)
theorem dX2_momentGap_16 : decode cX2_momentGap 16 = .ok (.istore_n 3, 1) := dk_62 (dk_at dksX2_momentGap_0 16 rfl rfl)
theorem dX2_momentGap_17 : decode cX2_momentGap 17 = .ok (.iload_n 3, 1) := dk_29 (dk_at dksX2_momentGap_0 17 rfl rfl)
theorem dX2_momentGap_18 : decode cX2_momentGap 18 = .ok (.aload_n 0, 1) := dk_42 (dk_at dksX2_momentGap_0 18 rfl rfl)
theorem dX2_momentGap_19 : decode cX2_momentGap 19 = .ok (.getfield 9, 3) := dk_180 0 9 (dk_at dksX2_momentGap_0 19 rfl rfl)
theorem dX2_momentGap_22 : decode cX2_momentGap 22 = .ok (.iconst 3, 1) := dk_6 (dk_at dksX2_momentGap_0 22 rfl rfl)
theorem dX2_momentGap_23 : decode cX2_momentGap 23 = .ok (.iaload, 1) := dk_46 (dk_at dksX2_momentGap_0 23 rfl rfl)
theorem dX2_momentGap_24 : decode cX2_momentGap 24 = .ok (.if_icmp .gt 85, 3) := dk_163 0 85 (dk_at dksX2_momentGap_1 0 rfl rfl)
theorem dX2_momentGap_27 : decode cX2_momentGap 27 = .ok (.iconst 0, 1) := dk_3 (dk_at dksX2_momentGap_1 3 rfl rfl)
theorem dX2_momentGap_28 : decode cX2_momentGap 28 = .ok (.istore 4, 2) := dk_54 4 (dk_at dksX2_momentGap_1 4 rfl rfl)
theorem dX2_momentGap_30 : decode cX2_momentGap 30 = .ok (.iload 4, 2) := dk_21 4 (dk_at dksX2_momentGap_1 6 rfl rfl)
theorem dX2_momentGap_32 : decode cX2_momentGap 32 = .ok (.iconst 1, 1) := dk_4 (dk_at dksX2_momentGap_1 8 rfl rfl)
theorem dX2_momentGap_33 : decode cX2_momentGap 33 = .ok (.iload_n 3, 1) := dk_29 (dk_at dksX2_momentGap_1 9 rfl rfl)
theorem dX2_momentGap_34 : decode cX2_momentGap 34 = .ok (.ishl, 1) := dk_120 (dk_at dksX2_momentGap_1 10 rfl rfl)
theorem dX2_momentGap_35 : decode cX2_momentGap 35 = .ok (.if_icmp .ge 68, 3) := dk_162 0 68 (dk_at dksX2_momentGap_1 11 rfl rfl)
theorem dX2_momentGap_38 : decode cX2_momentGap 38 = .ok (.iconst 0, 1) := dk_3 (dk_at dksX2_momentGap_1 14 rfl rfl)
theorem dX2_momentGap_39 : decode cX2_momentGap 39 = .ok (.istore 5, 2) := dk_54 5 (dk_at dksX2_momentGap_1 15 rfl rfl)
theorem dX2_momentGap_41 : decode cX2_momentGap 41 = .ok (.iload 5, 2) := dk_21 5 (dk_at dksX2_momentGap_1 17 rfl rfl)
theorem dX2_momentGap_43 : decode cX2_momentGap 43 = .ok (.iconst 4, 1) := dk_7 (dk_at dksX2_momentGap_1 19 rfl rfl)
theorem dX2_momentGap_44 : decode cX2_momentGap 44 = .ok (.if_icmp .gt 53, 3) := dk_163 0 53 (dk_at dksX2_momentGap_1 20 rfl rfl)
theorem dX2_momentGap_47 : decode cX2_momentGap 47 = .ok (.aload_n 0, 1) := dk_42 (dk_at dksX2_momentGap_1 23 rfl rfl)
theorem dX2_momentGap_48 : decode cX2_momentGap 48 = .ok (.iload_n 3, 1) := dk_29 (dk_at dksX2_momentGap_2 0 rfl rfl)
theorem dX2_momentGap_49 : decode cX2_momentGap 49 = .ok (.iload 4, 2) := dk_21 4 (dk_at dksX2_momentGap_2 1 rfl rfl)
theorem dX2_momentGap_51 : decode cX2_momentGap 51 = .ok (.iload 5, 2) := dk_21 5 (dk_at dksX2_momentGap_2 3 rfl rfl)
theorem dX2_momentGap_53 : decode cX2_momentGap 53 = .ok (.invokevirtual 243, 3) := dk_182 0 243 (dk_at dksX2_momentGap_2 5 rfl rfl)
theorem dX2_momentGap_56 : decode cX2_momentGap 56 = .ok (.aload_n 0, 1) := dk_42 (dk_at dksX2_momentGap_2 8 rfl rfl)
theorem dX2_momentGap_57 : decode cX2_momentGap 57 = .ok (.getfield 34, 3) := dk_180 0 34 (dk_at dksX2_momentGap_2 9 rfl rfl)
theorem dX2_momentGap_60 : decode cX2_momentGap 60 = .ok (.iload_n 3, 1) := dk_29 (dk_at dksX2_momentGap_2 12 rfl rfl)
theorem dX2_momentGap_61 : decode cX2_momentGap 61 = .ok (.iload 4, 2) := dk_21 4 (dk_at dksX2_momentGap_2 13 rfl rfl)
theorem dX2_momentGap_63 : decode cX2_momentGap 63 = .ok (.invokestatic 247, 3) := dk_184 0 247 (dk_at dksX2_momentGap_2 15 rfl rfl)
theorem dX2_momentGap_66 : decode cX2_momentGap 66 = .ok (.iload 5, 2) := dk_21 5 (dk_at dksX2_momentGap_2 18 rfl rfl)
theorem dX2_momentGap_68 : decode cX2_momentGap 68 = .ok (.iadd, 1) := dk_96 (dk_at dksX2_momentGap_2 20 rfl rfl)
theorem dX2_momentGap_69 : decode cX2_momentGap 69 = .ok (.laload, 1) := dk_47 (dk_at dksX2_momentGap_2 21 rfl rfl)
theorem dX2_momentGap_70 : decode cX2_momentGap 70 = .ok (.lsub, 1) := dk_101 (dk_at dksX2_momentGap_2 22 rfl rfl)
theorem dX2_momentGap_71 : decode cX2_momentGap 71 = .ok (.lstore 6, 2) := dk_55 6 (dk_at dksX2_momentGap_3 0 rfl rfl)
theorem dX2_momentGap_73 : decode cX2_momentGap 73 = .ok (.lload_n 1, 1) := dk_31 (dk_at dksX2_momentGap_3 2 rfl rfl)
theorem dX2_momentGap_74 : decode cX2_momentGap 74 = .ok (.lload 6, 2) := dk_22 6 (dk_at dksX2_momentGap_3 3 rfl rfl)
theorem dX2_momentGap_76 : decode cX2_momentGap 76 = .ok (.lconst 0, 1) := dk_9 (dk_at dksX2_momentGap_3 5 rfl rfl)
theorem dX2_momentGap_77 : decode cX2_momentGap 77 = .ok (.lcmp, 1) := dk_148 (dk_at dksX2_momentGap_3 6 rfl rfl)
theorem dX2_momentGap_78 : decode cX2_momentGap 78 = .ok (.ifCond .ge 9, 3) := dk_156 0 9 (dk_at dksX2_momentGap_3 7 rfl rfl)
theorem dX2_momentGap_81 : decode cX2_momentGap 81 = .ok (.lload 6, 2) := dk_22 6 (dk_at dksX2_momentGap_3 10 rfl rfl)
theorem dX2_momentGap_83 : decode cX2_momentGap 83 = .ok (.lneg, 1) := dk_117 (dk_at dksX2_momentGap_3 12 rfl rfl)
theorem dX2_momentGap_84 : decode cX2_momentGap 84 = .ok (.goto 5, 3) := dk_167 0 5 (dk_at dksX2_momentGap_3 13 rfl rfl)
theorem dX2_momentGap_87 : decode cX2_momentGap 87 = .ok (.lload 6, 2) := dk_22 6 (dk_at dksX2_momentGap_3 16 rfl rfl)
theorem dX2_momentGap_89 : decode cX2_momentGap 89 = .ok (.ladd, 1) := dk_97 (dk_at dksX2_momentGap_3 18 rfl rfl)
theorem dX2_momentGap_90 : decode cX2_momentGap 90 = .ok (.lstore_n 1, 1) := dk_64 (dk_at dksX2_momentGap_3 19 rfl rfl)
theorem dX2_momentGap_91 : decode cX2_momentGap 91 = .ok (.iinc 5 1, 3) := dk_132 5 1 (dk_at dksX2_momentGap_3 20 rfl rfl)
theorem dX2_momentGap_94 : decode cX2_momentGap 94 = .ok (.goto (-53), 3) := dk_167 255 203 (dk_at dksX2_momentGap_4 0 rfl rfl)
theorem dX2_momentGap_97 : decode cX2_momentGap 97 = .ok (.iinc 4 1, 3) := dk_132 4 1 (dk_at dksX2_momentGap_4 3 rfl rfl)
theorem dX2_momentGap_100 : decode cX2_momentGap 100 = .ok (.goto (-70), 3) := dk_167 255 186 (dk_at dksX2_momentGap_4 6 rfl rfl)
theorem dX2_momentGap_103 : decode cX2_momentGap 103 = .ok (.iinc 3 1, 3) := dk_132 3 1 (dk_at dksX2_momentGap_4 9 rfl rfl)
theorem dX2_momentGap_106 : decode cX2_momentGap 106 = .ok (.goto (-89), 3) := dk_167 255 167 (dk_at dksX2_momentGap_4 12 rfl rfl)
theorem dX2_momentGap_109 : decode cX2_momentGap 109 = .ok (.lload_n 1, 1) := dk_31 (dk_at dksX2_momentGap_4 15 rfl rfl)
theorem dX2_momentGap_110 : decode cX2_momentGap 110 = .ok (.lreturn, 1) := dk_173 (dk_at dksX2_momentGap_4 16 rfl rfl)
abbrev cX2_isNear : ByteArray := prog_10_method_64_code
def yX2_isNear : MethodName := ⟨RX2, "isNear", "(II)Z"⟩
def dkwX2_isNear_1 : List UInt8 := [184, 0, 178, 184, 0, 187, 4, 163, 0, 7, 4, 167, 0, 4, 3, 172]
abbrev dktX2_isNear_1 : List UInt8 := dkwX2_isNear_1 ++ []
def dkwX2_isNear_0 : List UInt8 := [42, 180, 0, 9, 6, 46, 42, 27, 3, 182, 0, 163, 184, 0, 178, 42, 180, 0, 9, 6, 46, 28]
abbrev dktX2_isNear_0 : List UInt8 := dkwX2_isNear_0 ++ dktX2_isNear_1
theorem dksX2_isNear_0 : cX2_isNear.data.toList.drop 0 = dktX2_isNear_0 := by decide +kernel
theorem dksX2_isNear_1 : cX2_isNear.data.toList.drop 22 = dktX2_isNear_1 := dk_seg dksX2_isNear_0 22 rfl rfl
theorem dX2_isNear_0 : decode cX2_isNear 0 = .ok (.aload_n 0, 1) := dk_42 (dk_at dksX2_isNear_0 0 rfl rfl)
theorem dX2_isNear_1 : decode cX2_isNear 1 = .ok (.getfield 9, 3) := dk_180 0 9 (dk_at dksX2_isNear_0 1 rfl rfl)
theorem dX2_isNear_4 : decode cX2_isNear 4 = .ok (.iconst 3, 1) := dk_6 (dk_at dksX2_isNear_0 4 rfl rfl)
theorem dX2_isNear_5 : decode cX2_isNear 5 = .ok (.iaload, 1) := dk_46 (dk_at dksX2_isNear_0 5 rfl rfl)
theorem dX2_isNear_6 : decode cX2_isNear 6 = .ok (.aload_n 0, 1) := dk_42 (dk_at dksX2_isNear_0 6 rfl rfl)
theorem dX2_isNear_7 : decode cX2_isNear 7 = .ok (.iload_n 1, 1) := dk_27 (dk_at dksX2_isNear_0 7 rfl rfl)
theorem dX2_isNear_8 : decode cX2_isNear 8 = .ok (.iconst 0, 1) := dk_3 (dk_at dksX2_isNear_0 8 rfl rfl)
theorem dX2_isNear_9 : decode cX2_isNear 9 = .ok (.invokevirtual 163, 3) := dk_182 0 163 (dk_at dksX2_isNear_0 9 rfl rfl)
theorem dX2_isNear_12 : decode cX2_isNear 12 = .ok (.invokestatic 178, 3) := dk_184 0 178 (dk_at dksX2_isNear_0 12 rfl rfl)
theorem dX2_isNear_15 : decode cX2_isNear 15 = .ok (.aload_n 0, 1) := dk_42 (dk_at dksX2_isNear_0 15 rfl rfl)
theorem dX2_isNear_16 : decode cX2_isNear 16 = .ok (.getfield 9, 3) := dk_180 0 9 (dk_at dksX2_isNear_0 16 rfl rfl)
theorem dX2_isNear_19 : decode cX2_isNear 19 = .ok (.iconst 3, 1) := dk_6 (dk_at dksX2_isNear_0 19 rfl rfl)
theorem dX2_isNear_20 : decode cX2_isNear 20 = .ok (.iaload, 1) := dk_46 (dk_at dksX2_isNear_0 20 rfl rfl)
theorem dX2_isNear_21 : decode cX2_isNear 21 = .ok (.iload_n 2, 1) := dk_28 (dk_at dksX2_isNear_0 21 rfl rfl)
theorem dX2_isNear_22 : decode cX2_isNear 22 = .ok (.invokestatic 178, 3) := dk_184 0 178 (dk_at dksX2_isNear_1 0 rfl rfl)
theorem dX2_isNear_25 : decode cX2_isNear 25 = .ok (.invokestatic 187, 3) := dk_184 0 187 (dk_at dksX2_isNear_1 3 rfl rfl)
theorem dX2_isNear_28 : decode cX2_isNear 28 = .ok (.iconst 1, 1) := dk_4 (dk_at dksX2_isNear_1 6 rfl rfl)
theorem dX2_isNear_29 : decode cX2_isNear 29 = .ok (.if_icmp .gt 7, 3) := dk_163 0 7 (dk_at dksX2_isNear_1 7 rfl rfl)
theorem dX2_isNear_32 : decode cX2_isNear 32 = .ok (.iconst 1, 1) := dk_4 (dk_at dksX2_isNear_1 10 rfl rfl)
theorem dX2_isNear_33 : decode cX2_isNear 33 = .ok (.goto 4, 3) := dk_167 0 4 (dk_at dksX2_isNear_1 11 rfl rfl)
theorem dX2_isNear_36 : decode cX2_isNear 36 = .ok (.iconst 0, 1) := dk_3 (dk_at dksX2_isNear_1 14 rfl rfl)
theorem dX2_isNear_37 : decode cX2_isNear 37 = .ok (.ireturn, 1) := dk_172 (dk_at dksX2_isNear_1 15 rfl rfl)
abbrev cX2_nearAll : ByteArray := prog_10_method_65_code
def yX2_nearAll : MethodName := ⟨RX2, "nearAll", "(I)I"⟩
def dkwX2_nearAll_1 : List UInt8 := [96, 61, 132, 3, 1, 167, 255, 231, 28, 172]
abbrev dktX2_nearAll_1 : List UInt8 := dkwX2_nearAll_1 ++ []
def dkwX2_nearAll_0 : List UInt8 := [3, 61, 3, 62, 29, 42, 180, 0, 9, 3, 46, 162, 0, 21, 28, 42, 29, 27, 182, 1, 7, 184, 0, 170]
abbrev dktX2_nearAll_0 : List UInt8 := dkwX2_nearAll_0 ++ dktX2_nearAll_1
theorem dksX2_nearAll_0 : cX2_nearAll.data.toList.drop 0 = dktX2_nearAll_0 := by decide +kernel
theorem dksX2_nearAll_1 : cX2_nearAll.data.toList.drop 24 = dktX2_nearAll_1 := dk_seg dksX2_nearAll_0 24 rfl rfl
theorem dX2_nearAll_0 : decode cX2_nearAll 0 = .ok (.iconst 0, 1) := dk_3 (dk_at dksX2_nearAll_0 0 rfl rfl)
theorem dX2_nearAll_1 : decode cX2_nearAll 1 = .ok (.istore_n 2, 1) := dk_61 (dk_at dksX2_nearAll_0 1 rfl rfl)
theorem dX2_nearAll_2 : decode cX2_nearAll 2 = .ok (.iconst 0, 1) := dk_3 (dk_at dksX2_nearAll_0 2 rfl rfl)
theorem dX2_nearAll_3 : decode cX2_nearAll 3 = .ok (.istore_n 3, 1) := dk_62 (dk_at dksX2_nearAll_0 3 rfl rfl)
theorem dX2_nearAll_4 : decode cX2_nearAll 4 = .ok (.iload_n 3, 1) := dk_29 (dk_at dksX2_nearAll_0 4 rfl rfl)
theorem dX2_nearAll_5 : decode cX2_nearAll 5 = .ok (.aload_n 0, 1) := dk_42 (dk_at dksX2_nearAll_0 5 rfl rfl)
theorem dX2_nearAll_6 : decode cX2_nearAll 6 = .ok (.getfield 9, 3) := dk_180 0 9 (dk_at dksX2_nearAll_0 6 rfl rfl)
theorem dX2_nearAll_9 : decode cX2_nearAll 9 = .ok (.iconst 0, 1) := dk_3 (dk_at dksX2_nearAll_0 9 rfl rfl)
theorem dX2_nearAll_10 : decode cX2_nearAll 10 = .ok (.iaload, 1) := dk_46 (dk_at dksX2_nearAll_0 10 rfl rfl)
theorem dX2_nearAll_11 : decode cX2_nearAll 11 = .ok (.if_icmp .ge 21, 3) := dk_162 0 21 (dk_at dksX2_nearAll_0 11 rfl rfl)
theorem dX2_nearAll_14 : decode cX2_nearAll 14 = .ok (.iload_n 2, 1) := dk_28 (dk_at dksX2_nearAll_0 14 rfl rfl)
theorem dX2_nearAll_15 : decode cX2_nearAll 15 = .ok (.aload_n 0, 1) := dk_42 (dk_at dksX2_nearAll_0 15 rfl rfl)
theorem dX2_nearAll_16 : decode cX2_nearAll 16 = .ok (.iload_n 3, 1) := dk_29 (dk_at dksX2_nearAll_0 16 rfl rfl)
theorem dX2_nearAll_17 : decode cX2_nearAll 17 = .ok (.iload_n 1, 1) := dk_27 (dk_at dksX2_nearAll_0 17 rfl rfl)
theorem dX2_nearAll_18 : decode cX2_nearAll 18 = .ok (.invokevirtual 263, 3) := dk_182 1 7 (dk_at dksX2_nearAll_0 18 rfl rfl)
theorem dX2_nearAll_21 : decode cX2_nearAll 21 = .ok (.invokestatic 170, 3) := dk_184 0 170 (dk_at dksX2_nearAll_0 21 rfl rfl)
theorem dX2_nearAll_24 : decode cX2_nearAll 24 = .ok (.iadd, 1) := dk_96 (dk_at dksX2_nearAll_1 0 rfl rfl)
theorem dX2_nearAll_25 : decode cX2_nearAll 25 = .ok (.istore_n 2, 1) := dk_61 (dk_at dksX2_nearAll_1 1 rfl rfl)
theorem dX2_nearAll_26 : decode cX2_nearAll 26 = .ok (.iinc 3 1, 3) := dk_132 3 1 (dk_at dksX2_nearAll_1 2 rfl rfl)
theorem dX2_nearAll_29 : decode cX2_nearAll 29 = .ok (.goto (-25), 3) := dk_167 255 231 (dk_at dksX2_nearAll_1 5 rfl rfl)
theorem dX2_nearAll_32 : decode cX2_nearAll 32 = .ok (.iload_n 2, 1) := dk_28 (dk_at dksX2_nearAll_1 8 rfl rfl)
theorem dX2_nearAll_33 : decode cX2_nearAll 33 = .ok (.ireturn, 1) := dk_172 (dk_at dksX2_nearAll_1 9 rfl rfl)
abbrev cX2_nearMany : ByteArray := prog_10_method_66_code
def yX2_nearMany : MethodName := ⟨RX2, "nearMany", "(I)I"⟩
def dkwX2_nearMany_0 : List UInt8 := [42, 27, 182, 0, 216, 153, 0, 11, 42, 27, 182, 1, 10, 167, 0, 4, 3, 172]
abbrev dktX2_nearMany_0 : List UInt8 := dkwX2_nearMany_0 ++ []
theorem dksX2_nearMany_0 : cX2_nearMany.data.toList.drop 0 = dktX2_nearMany_0 := by decide +kernel
theorem dX2_nearMany_0 : decode cX2_nearMany 0 = .ok (.aload_n 0, 1) := dk_42 (dk_at dksX2_nearMany_0 0 rfl rfl)
theorem dX2_nearMany_1 : decode cX2_nearMany 1 = .ok (.iload_n 1, 1) := dk_27 (dk_at dksX2_nearMany_0 1 rfl rfl)
theorem dX2_nearMany_2 : decode cX2_nearMany 2 = .ok (.invokevirtual 216, 3) := dk_182 0 216 (dk_at dksX2_nearMany_0 2 rfl rfl)
theorem dX2_nearMany_5 : decode cX2_nearMany 5 = .ok (.ifCond .eq 11, 3) := dk_153 0 11 (dk_at dksX2_nearMany_0 5 rfl rfl)
theorem dX2_nearMany_8 : decode cX2_nearMany 8 = .ok (.aload_n 0, 1) := dk_42 (dk_at dksX2_nearMany_0 8 rfl rfl)
theorem dX2_nearMany_9 : decode cX2_nearMany 9 = .ok (.iload_n 1, 1) := dk_27 (dk_at dksX2_nearMany_0 9 rfl rfl)
theorem dX2_nearMany_10 : decode cX2_nearMany 10 = .ok (.invokevirtual 266, 3) := dk_182 1 10 (dk_at dksX2_nearMany_0 10 rfl rfl)
theorem dX2_nearMany_13 : decode cX2_nearMany 13 = .ok (.goto 4, 3) := dk_167 0 4 (dk_at dksX2_nearMany_0 13 rfl rfl)
theorem dX2_nearMany_16 : decode cX2_nearMany 16 = .ok (.iconst 0, 1) := dk_3 (dk_at dksX2_nearMany_0 16 rfl rfl)
theorem dX2_nearMany_17 : decode cX2_nearMany 17 = .ok (.ireturn, 1) := dk_172 (dk_at dksX2_nearMany_0 17 rfl rfl)
abbrev cX2_nearBody : ByteArray := prog_10_method_67_code
def yX2_nearBody : MethodName := ⟨RX2, "nearBody", "(II)I"⟩
def dkwX2_nearBody_2 : List UInt8 := [132, 3, 1, 132, 4, 1, 167, 255, 218, 2, 172]
abbrev dktX2_nearBody_2 : List UInt8 := dkwX2_nearBody_2 ++ []
def dkwX2_nearBody_1 : List UInt8 := [162, 0, 33, 42, 21, 4, 27, 182, 1, 7, 154, 0, 6, 167, 0, 14, 29, 28, 160, 0, 6, 21, 4, 172]
abbrev dktX2_nearBody_1 : List UInt8 := dkwX2_nearBody_1 ++ dktX2_nearBody_2
def dkwX2_nearBody_0 : List UInt8 := [42, 27, 182, 0, 216, 154, 0, 5, 3, 172, 3, 62, 3, 54, 4, 21, 4, 42, 180, 0, 9, 3, 46]
abbrev dktX2_nearBody_0 : List UInt8 := dkwX2_nearBody_0 ++ dktX2_nearBody_1
theorem dksX2_nearBody_0 : cX2_nearBody.data.toList.drop 0 = dktX2_nearBody_0 := by decide +kernel
theorem dksX2_nearBody_1 : cX2_nearBody.data.toList.drop 23 = dktX2_nearBody_1 := dk_seg dksX2_nearBody_0 23 rfl rfl
theorem dksX2_nearBody_2 : cX2_nearBody.data.toList.drop 47 = dktX2_nearBody_2 := dk_seg dksX2_nearBody_1 24 rfl rfl
theorem dX2_nearBody_0 : decode cX2_nearBody 0 = .ok (.aload_n 0, 1) := dk_42 (dk_at dksX2_nearBody_0 0 rfl rfl)
theorem dX2_nearBody_1 : decode cX2_nearBody 1 = .ok (.iload_n 1, 1) := dk_27 (dk_at dksX2_nearBody_0 1 rfl rfl)
theorem dX2_nearBody_2 : decode cX2_nearBody 2 = .ok (.invokevirtual 216, 3) := dk_182 0 216 (dk_at dksX2_nearBody_0 2 rfl rfl)
theorem dX2_nearBody_5 : decode cX2_nearBody 5 = .ok (.ifCond .ne 5, 3) := dk_154 0 5 (dk_at dksX2_nearBody_0 5 rfl rfl)
theorem dX2_nearBody_8 : decode cX2_nearBody 8 = .ok (.iconst 0, 1) := dk_3 (dk_at dksX2_nearBody_0 8 rfl rfl)
theorem dX2_nearBody_9 : decode cX2_nearBody 9 = .ok (.ireturn, 1) := dk_172 (dk_at dksX2_nearBody_0 9 rfl rfl)
theorem dX2_nearBody_10 : decode cX2_nearBody 10 = .ok (.iconst 0, 1) := dk_3 (dk_at dksX2_nearBody_0 10 rfl rfl)
theorem dX2_nearBody_11 : decode cX2_nearBody 11 = .ok (.istore_n 3, 1) := dk_62 (dk_at dksX2_nearBody_0 11 rfl rfl)
theorem dX2_nearBody_12 : decode cX2_nearBody 12 = .ok (.iconst 0, 1) := dk_3 (dk_at dksX2_nearBody_0 12 rfl rfl)
theorem dX2_nearBody_13 : decode cX2_nearBody 13 = .ok (.istore 4, 2) := dk_54 4 (dk_at dksX2_nearBody_0 13 rfl rfl)
theorem dX2_nearBody_15 : decode cX2_nearBody 15 = .ok (.iload 4, 2) := dk_21 4 (dk_at dksX2_nearBody_0 15 rfl rfl)
theorem dX2_nearBody_17 : decode cX2_nearBody 17 = .ok (.aload_n 0, 1) := dk_42 (dk_at dksX2_nearBody_0 17 rfl rfl)
theorem dX2_nearBody_18 : decode cX2_nearBody 18 = .ok (.getfield 9, 3) := dk_180 0 9 (dk_at dksX2_nearBody_0 18 rfl rfl)
theorem dX2_nearBody_21 : decode cX2_nearBody 21 = .ok (.iconst 0, 1) := dk_3 (dk_at dksX2_nearBody_0 21 rfl rfl)
theorem dX2_nearBody_22 : decode cX2_nearBody 22 = .ok (.iaload, 1) := dk_46 (dk_at dksX2_nearBody_0 22 rfl rfl)
theorem dX2_nearBody_23 : decode cX2_nearBody 23 = .ok (.if_icmp .ge 33, 3) := dk_162 0 33 (dk_at dksX2_nearBody_1 0 rfl rfl)
theorem dX2_nearBody_26 : decode cX2_nearBody 26 = .ok (.aload_n 0, 1) := dk_42 (dk_at dksX2_nearBody_1 3 rfl rfl)
theorem dX2_nearBody_27 : decode cX2_nearBody 27 = .ok (.iload 4, 2) := dk_21 4 (dk_at dksX2_nearBody_1 4 rfl rfl)
theorem dX2_nearBody_29 : decode cX2_nearBody 29 = .ok (.iload_n 1, 1) := dk_27 (dk_at dksX2_nearBody_1 6 rfl rfl)
theorem dX2_nearBody_30 : decode cX2_nearBody 30 = .ok (.invokevirtual 263, 3) := dk_182 1 7 (dk_at dksX2_nearBody_1 7 rfl rfl)
theorem dX2_nearBody_33 : decode cX2_nearBody 33 = .ok (.ifCond .ne 6, 3) := dk_154 0 6 (dk_at dksX2_nearBody_1 10 rfl rfl)
theorem dX2_nearBody_36 : decode cX2_nearBody 36 = .ok (.goto 14, 3) := dk_167 0 14 (dk_at dksX2_nearBody_1 13 rfl rfl)
theorem dX2_nearBody_39 : decode cX2_nearBody 39 = .ok (.iload_n 3, 1) := dk_29 (dk_at dksX2_nearBody_1 16 rfl rfl)
theorem dX2_nearBody_40 : decode cX2_nearBody 40 = .ok (.iload_n 2, 1) := dk_28 (dk_at dksX2_nearBody_1 17 rfl rfl)
theorem dX2_nearBody_41 : decode cX2_nearBody 41 = .ok (.if_icmp .ne 6, 3) := dk_160 0 6 (dk_at dksX2_nearBody_1 18 rfl rfl)
theorem dX2_nearBody_44 : decode cX2_nearBody 44 = .ok (.iload 4, 2) := dk_21 4 (dk_at dksX2_nearBody_1 21 rfl rfl)
theorem dX2_nearBody_46 : decode cX2_nearBody 46 = .ok (.ireturn, 1) := dk_172 (dk_at dksX2_nearBody_1 23 rfl rfl)
theorem dX2_nearBody_47 : decode cX2_nearBody 47 = .ok (.iinc 3 1, 3) := dk_132 3 1 (dk_at dksX2_nearBody_2 0 rfl rfl)
theorem dX2_nearBody_50 : decode cX2_nearBody 50 = .ok (.iinc 4 1, 3) := dk_132 4 1 (dk_at dksX2_nearBody_2 3 rfl rfl)
theorem dX2_nearBody_53 : decode cX2_nearBody 53 = .ok (.goto (-38), 3) := dk_167 255 218 (dk_at dksX2_nearBody_2 6 rfl rfl)
theorem dX2_nearBody_56 : decode cX2_nearBody 56 = .ok (.iconst (-1), 1) := dk_2 (dk_at dksX2_nearBody_2 9 rfl rfl)
theorem dX2_nearBody_57 : decode cX2_nearBody 57 = .ok (.ireturn, 1) := dk_172 (dk_at dksX2_nearBody_2 10 rfl rfl)
abbrev cX2_isFar : ByteArray := prog_10_method_68_code
def yX2_isFar : MethodName := ⟨RX2, "isFar", "(III)Z"⟩
def dkwX2_isFar_1 : List UInt8 := [28, 182, 0, 190, 158, 0, 7, 4, 167, 0, 4, 3, 172]
abbrev dktX2_isFar_1 : List UInt8 := dkwX2_isFar_1 ++ []
def dkwX2_isFar_0 : List UInt8 := [28, 29, 184, 0, 187, 4, 164, 0, 29, 28, 5, 108, 29, 5, 108, 184, 0, 187, 4, 163, 0, 16, 42, 27]
abbrev dktX2_isFar_0 : List UInt8 := dkwX2_isFar_0 ++ dktX2_isFar_1
theorem dksX2_isFar_0 : cX2_isFar.data.toList.drop 0 = dktX2_isFar_0 := by decide +kernel
theorem dksX2_isFar_1 : cX2_isFar.data.toList.drop 24 = dktX2_isFar_1 := dk_seg dksX2_isFar_0 24 rfl rfl
theorem dX2_isFar_0 : decode cX2_isFar 0 = .ok (.iload_n 2, 1) := dk_28 (dk_at dksX2_isFar_0 0 rfl rfl)
theorem dX2_isFar_1 : decode cX2_isFar 1 = .ok (.iload_n 3, 1) := dk_29 (dk_at dksX2_isFar_0 1 rfl rfl)
theorem dX2_isFar_2 : decode cX2_isFar 2 = .ok (.invokestatic 187, 3) := dk_184 0 187 (dk_at dksX2_isFar_0 2 rfl rfl)
theorem dX2_isFar_5 : decode cX2_isFar 5 = .ok (.iconst 1, 1) := dk_4 (dk_at dksX2_isFar_0 5 rfl rfl)
theorem dX2_isFar_6 : decode cX2_isFar 6 = .ok (.if_icmp .le 29, 3) := dk_164 0 29 (dk_at dksX2_isFar_0 6 rfl rfl)
theorem dX2_isFar_9 : decode cX2_isFar 9 = .ok (.iload_n 2, 1) := dk_28 (dk_at dksX2_isFar_0 9 rfl rfl)
theorem dX2_isFar_10 : decode cX2_isFar 10 = .ok (.iconst 2, 1) := dk_5 (dk_at dksX2_isFar_0 10 rfl rfl)
theorem dX2_isFar_11 : decode cX2_isFar 11 = .ok (.idiv, 1) := dk_108 (dk_at dksX2_isFar_0 11 rfl rfl)
theorem dX2_isFar_12 : decode cX2_isFar 12 = .ok (.iload_n 3, 1) := dk_29 (dk_at dksX2_isFar_0 12 rfl rfl)
theorem dX2_isFar_13 : decode cX2_isFar 13 = .ok (.iconst 2, 1) := dk_5 (dk_at dksX2_isFar_0 13 rfl rfl)
theorem dX2_isFar_14 : decode cX2_isFar 14 = .ok (.idiv, 1) := dk_108 (dk_at dksX2_isFar_0 14 rfl rfl)
theorem dX2_isFar_15 : decode cX2_isFar 15 = .ok (.invokestatic 187, 3) := dk_184 0 187 (dk_at dksX2_isFar_0 15 rfl rfl)
theorem dX2_isFar_18 : decode cX2_isFar 18 = .ok (.iconst 1, 1) := dk_4 (dk_at dksX2_isFar_0 18 rfl rfl)
theorem dX2_isFar_19 : decode cX2_isFar 19 = .ok (.if_icmp .gt 16, 3) := dk_163 0 16 (dk_at dksX2_isFar_0 19 rfl rfl)
theorem dX2_isFar_22 : decode cX2_isFar 22 = .ok (.aload_n 0, 1) := dk_42 (dk_at dksX2_isFar_0 22 rfl rfl)
theorem dX2_isFar_23 : decode cX2_isFar 23 = .ok (.iload_n 1, 1) := dk_27 (dk_at dksX2_isFar_0 23 rfl rfl)
theorem dX2_isFar_24 : decode cX2_isFar 24 = .ok (.iload_n 2, 1) := dk_28 (dk_at dksX2_isFar_1 0 rfl rfl)
theorem dX2_isFar_25 : decode cX2_isFar 25 = .ok (.invokevirtual 190, 3) := dk_182 0 190 (dk_at dksX2_isFar_1 1 rfl rfl)
theorem dX2_isFar_28 : decode cX2_isFar 28 = .ok (.ifCond .le 7, 3) := dk_158 0 7 (dk_at dksX2_isFar_1 4 rfl rfl)
theorem dX2_isFar_31 : decode cX2_isFar 31 = .ok (.iconst 1, 1) := dk_4 (dk_at dksX2_isFar_1 7 rfl rfl)
theorem dX2_isFar_32 : decode cX2_isFar 32 = .ok (.goto 4, 3) := dk_167 0 4 (dk_at dksX2_isFar_1 8 rfl rfl)
theorem dX2_isFar_35 : decode cX2_isFar 35 = .ok (.iconst 0, 1) := dk_3 (dk_at dksX2_isFar_1 11 rfl rfl)
theorem dX2_isFar_36 : decode cX2_isFar 36 = .ok (.ireturn, 1) := dk_172 (dk_at dksX2_isFar_1 12 rfl rfl)
abbrev cX2_laysFar : ByteArray := prog_10_method_69_code
def yX2_laysFar : MethodName := ⟨RX2, "laysFar", "(I)V"⟩
def dkwX2_laysFar_3 : List UInt8 := [181, 1, 13, 132, 3, 1, 167, 255, 199, 132, 2, 1, 167, 255, 181, 177]
abbrev dktX2_laysFar_3 : List UInt8 := dkwX2_laysFar_3 ++ []
def dkwX2_laysFar_2 : List UInt8 := [42, 180, 1, 13, 28, 79, 42, 180, 0, 41, 42, 180, 1, 13, 29, 79, 42, 89, 180, 1, 13, 4, 96]
abbrev dktX2_laysFar_2 : List UInt8 := dkwX2_laysFar_2 ++ dktX2_laysFar_3
def dkwX2_laysFar_1 : List UInt8 := [162, 0, 56, 42, 28, 29, 28, 27, 184, 0, 178, 182, 1, 16, 154, 0, 6, 167, 0, 33, 42, 180, 0, 38]
abbrev dktX2_laysFar_1 : List UInt8 := dkwX2_laysFar_1 ++ dktX2_laysFar_2
def dkwX2_laysFar_0 : List UInt8 := [42, 3, 181, 1, 13, 5, 61, 28, 42, 180, 0, 9, 6, 46, 163, 0, 71, 3, 62, 29, 4, 28, 120]
abbrev dktX2_laysFar_0 : List UInt8 := dkwX2_laysFar_0 ++ dktX2_laysFar_1
theorem dksX2_laysFar_0 : cX2_laysFar.data.toList.drop 0 = dktX2_laysFar_0 := by decide +kernel
theorem dksX2_laysFar_1 : cX2_laysFar.data.toList.drop 23 = dktX2_laysFar_1 := dk_seg dksX2_laysFar_0 23 rfl rfl
theorem dksX2_laysFar_2 : cX2_laysFar.data.toList.drop 47 = dktX2_laysFar_2 := dk_seg dksX2_laysFar_1 24 rfl rfl
theorem dksX2_laysFar_3 : cX2_laysFar.data.toList.drop 70 = dktX2_laysFar_3 := dk_seg dksX2_laysFar_2 23 rfl rfl
theorem dX2_laysFar_0 : decode cX2_laysFar 0 = .ok (.aload_n 0, 1) := dk_42 (dk_at dksX2_laysFar_0 0 rfl rfl)
theorem dX2_laysFar_1 : decode cX2_laysFar 1 = .ok (.iconst 0, 1) := dk_3 (dk_at dksX2_laysFar_0 1 rfl rfl)
theorem dX2_laysFar_2 : decode cX2_laysFar 2 = .ok (.putfield 269, 3) := dk_181 1 13 (dk_at dksX2_laysFar_0 2 rfl rfl)
theorem dX2_laysFar_5 : decode cX2_laysFar 5 = .ok (.iconst 2, 1) := dk_5 (dk_at dksX2_laysFar_0 5 rfl rfl)
theorem dX2_laysFar_6 : decode cX2_laysFar 6 = .ok (.istore_n 2, 1) := dk_61 (dk_at dksX2_laysFar_0 6 rfl rfl)
theorem dX2_laysFar_7 : decode cX2_laysFar 7 = .ok (.iload_n 2, 1) := dk_28 (dk_at dksX2_laysFar_0 7 rfl rfl)
theorem dX2_laysFar_8 : decode cX2_laysFar 8 = .ok (.aload_n 0, 1) := dk_42 (dk_at dksX2_laysFar_0 8 rfl rfl)
theorem dX2_laysFar_9 : decode cX2_laysFar 9 = .ok (.getfield 9, 3) := dk_180 0 9 (dk_at dksX2_laysFar_0 9 rfl rfl)
theorem dX2_laysFar_12 : decode cX2_laysFar 12 = .ok (.iconst 3, 1) := dk_6 (dk_at dksX2_laysFar_0 12 rfl rfl)
theorem dX2_laysFar_13 : decode cX2_laysFar 13 = .ok (.iaload, 1) := dk_46 (dk_at dksX2_laysFar_0 13 rfl rfl)
theorem dX2_laysFar_14 : decode cX2_laysFar 14 = .ok (.if_icmp .gt 71, 3) := dk_163 0 71 (dk_at dksX2_laysFar_0 14 rfl rfl)
theorem dX2_laysFar_17 : decode cX2_laysFar 17 = .ok (.iconst 0, 1) := dk_3 (dk_at dksX2_laysFar_0 17 rfl rfl)
theorem dX2_laysFar_18 : decode cX2_laysFar 18 = .ok (.istore_n 3, 1) := dk_62 (dk_at dksX2_laysFar_0 18 rfl rfl)
theorem dX2_laysFar_19 : decode cX2_laysFar 19 = .ok (.iload_n 3, 1) := dk_29 (dk_at dksX2_laysFar_0 19 rfl rfl)
theorem dX2_laysFar_20 : decode cX2_laysFar 20 = .ok (.iconst 1, 1) := dk_4 (dk_at dksX2_laysFar_0 20 rfl rfl)
theorem dX2_laysFar_21 : decode cX2_laysFar 21 = .ok (.iload_n 2, 1) := dk_28 (dk_at dksX2_laysFar_0 21 rfl rfl)
theorem dX2_laysFar_22 : decode cX2_laysFar 22 = .ok (.ishl, 1) := dk_120 (dk_at dksX2_laysFar_0 22 rfl rfl)
theorem dX2_laysFar_23 : decode cX2_laysFar 23 = .ok (.if_icmp .ge 56, 3) := dk_162 0 56 (dk_at dksX2_laysFar_1 0 rfl rfl)
theorem dX2_laysFar_26 : decode cX2_laysFar 26 = .ok (.aload_n 0, 1) := dk_42 (dk_at dksX2_laysFar_1 3 rfl rfl)
theorem dX2_laysFar_27 : decode cX2_laysFar 27 = .ok (.iload_n 2, 1) := dk_28 (dk_at dksX2_laysFar_1 4 rfl rfl)
theorem dX2_laysFar_28 : decode cX2_laysFar 28 = .ok (.iload_n 3, 1) := dk_29 (dk_at dksX2_laysFar_1 5 rfl rfl)
theorem dX2_laysFar_29 : decode cX2_laysFar 29 = .ok (.iload_n 2, 1) := dk_28 (dk_at dksX2_laysFar_1 6 rfl rfl)
theorem dX2_laysFar_30 : decode cX2_laysFar 30 = .ok (.iload_n 1, 1) := dk_27 (dk_at dksX2_laysFar_1 7 rfl rfl)
theorem dX2_laysFar_31 : decode cX2_laysFar 31 = .ok (.invokestatic 178, 3) := dk_184 0 178 (dk_at dksX2_laysFar_1 8 rfl rfl)
theorem dX2_laysFar_34 : decode cX2_laysFar 34 = .ok (.invokevirtual 272, 3) := dk_182 1 16 (dk_at dksX2_laysFar_1 11 rfl rfl)
theorem dX2_laysFar_37 : decode cX2_laysFar 37 = .ok (.ifCond .ne 6, 3) := dk_154 0 6 (dk_at dksX2_laysFar_1 14 rfl rfl)
theorem dX2_laysFar_40 : decode cX2_laysFar 40 = .ok (.goto 33, 3) := dk_167 0 33 (dk_at dksX2_laysFar_1 17 rfl rfl)
theorem dX2_laysFar_43 : decode cX2_laysFar 43 = .ok (.aload_n 0, 1) := dk_42 (dk_at dksX2_laysFar_1 20 rfl rfl)
theorem dX2_laysFar_44 : decode cX2_laysFar 44 = .ok (.getfield 38, 3) := dk_180 0 38 (dk_at dksX2_laysFar_1 21 rfl rfl)
theorem dX2_laysFar_47 : decode cX2_laysFar 47 = .ok (.aload_n 0, 1) := dk_42 (dk_at dksX2_laysFar_2 0 rfl rfl)
theorem dX2_laysFar_48 : decode cX2_laysFar 48 = .ok (.getfield 269, 3) := dk_180 1 13 (dk_at dksX2_laysFar_2 1 rfl rfl)
theorem dX2_laysFar_51 : decode cX2_laysFar 51 = .ok (.iload_n 2, 1) := dk_28 (dk_at dksX2_laysFar_2 4 rfl rfl)
theorem dX2_laysFar_52 : decode cX2_laysFar 52 = .ok (.iastore, 1) := dk_79 (dk_at dksX2_laysFar_2 5 rfl rfl)
theorem dX2_laysFar_53 : decode cX2_laysFar 53 = .ok (.aload_n 0, 1) := dk_42 (dk_at dksX2_laysFar_2 6 rfl rfl)
theorem dX2_laysFar_54 : decode cX2_laysFar 54 = .ok (.getfield 41, 3) := dk_180 0 41 (dk_at dksX2_laysFar_2 7 rfl rfl)
theorem dX2_laysFar_57 : decode cX2_laysFar 57 = .ok (.aload_n 0, 1) := dk_42 (dk_at dksX2_laysFar_2 10 rfl rfl)
theorem dX2_laysFar_58 : decode cX2_laysFar 58 = .ok (.getfield 269, 3) := dk_180 1 13 (dk_at dksX2_laysFar_2 11 rfl rfl)
theorem dX2_laysFar_61 : decode cX2_laysFar 61 = .ok (.iload_n 3, 1) := dk_29 (dk_at dksX2_laysFar_2 14 rfl rfl)
theorem dX2_laysFar_62 : decode cX2_laysFar 62 = .ok (.iastore, 1) := dk_79 (dk_at dksX2_laysFar_2 15 rfl rfl)
theorem dX2_laysFar_63 : decode cX2_laysFar 63 = .ok (.aload_n 0, 1) := dk_42 (dk_at dksX2_laysFar_2 16 rfl rfl)
theorem dX2_laysFar_64 : decode cX2_laysFar 64 = .ok (.dup, 1) := dk_89 (dk_at dksX2_laysFar_2 17 rfl rfl)
theorem dX2_laysFar_65 : decode cX2_laysFar 65 = .ok (.getfield 269, 3) := dk_180 1 13 (dk_at dksX2_laysFar_2 18 rfl rfl)
theorem dX2_laysFar_68 : decode cX2_laysFar 68 = .ok (.iconst 1, 1) := dk_4 (dk_at dksX2_laysFar_2 21 rfl rfl)
theorem dX2_laysFar_69 : decode cX2_laysFar 69 = .ok (.iadd, 1) := dk_96 (dk_at dksX2_laysFar_2 22 rfl rfl)
theorem dX2_laysFar_70 : decode cX2_laysFar 70 = .ok (.putfield 269, 3) := dk_181 1 13 (dk_at dksX2_laysFar_3 0 rfl rfl)
theorem dX2_laysFar_73 : decode cX2_laysFar 73 = .ok (.iinc 3 1, 3) := dk_132 3 1 (dk_at dksX2_laysFar_3 3 rfl rfl)
theorem dX2_laysFar_76 : decode cX2_laysFar 76 = .ok (.goto (-57), 3) := dk_167 255 199 (dk_at dksX2_laysFar_3 6 rfl rfl)
theorem dX2_laysFar_79 : decode cX2_laysFar 79 = .ok (.iinc 2 1, 3) := dk_132 2 1 (dk_at dksX2_laysFar_3 9 rfl rfl)
theorem dX2_laysFar_82 : decode cX2_laysFar 82 = .ok (.goto (-75), 3) := dk_167 255 181 (dk_at dksX2_laysFar_3 12 rfl rfl)
theorem dX2_laysFar_85 : decode cX2_laysFar 85 = .ok (.return_, 1) := dk_177 (dk_at dksX2_laysFar_3 15 rfl rfl)
abbrev cX2_farMany : ByteArray := prog_10_method_70_code
def yX2_farMany : MethodName := ⟨RX2, "farMany", "(I)I"⟩
def dkwX2_farMany_0 : List UInt8 := [42, 27, 182, 0, 216, 154, 0, 5, 3, 172, 42, 27, 182, 1, 19, 42, 180, 1, 13, 172]
abbrev dktX2_farMany_0 : List UInt8 := dkwX2_farMany_0 ++ []
theorem dksX2_farMany_0 : cX2_farMany.data.toList.drop 0 = dktX2_farMany_0 := by decide +kernel
theorem dX2_farMany_0 : decode cX2_farMany 0 = .ok (.aload_n 0, 1) := dk_42 (dk_at dksX2_farMany_0 0 rfl rfl)
theorem dX2_farMany_1 : decode cX2_farMany 1 = .ok (.iload_n 1, 1) := dk_27 (dk_at dksX2_farMany_0 1 rfl rfl)
theorem dX2_farMany_2 : decode cX2_farMany 2 = .ok (.invokevirtual 216, 3) := dk_182 0 216 (dk_at dksX2_farMany_0 2 rfl rfl)
theorem dX2_farMany_5 : decode cX2_farMany 5 = .ok (.ifCond .ne 5, 3) := dk_154 0 5 (dk_at dksX2_farMany_0 5 rfl rfl)
theorem dX2_farMany_8 : decode cX2_farMany 8 = .ok (.iconst 0, 1) := dk_3 (dk_at dksX2_farMany_0 8 rfl rfl)
theorem dX2_farMany_9 : decode cX2_farMany 9 = .ok (.ireturn, 1) := dk_172 (dk_at dksX2_farMany_0 9 rfl rfl)
theorem dX2_farMany_10 : decode cX2_farMany 10 = .ok (.aload_n 0, 1) := dk_42 (dk_at dksX2_farMany_0 10 rfl rfl)
theorem dX2_farMany_11 : decode cX2_farMany 11 = .ok (.iload_n 1, 1) := dk_27 (dk_at dksX2_farMany_0 11 rfl rfl)
theorem dX2_farMany_12 : decode cX2_farMany 12 = .ok (.invokevirtual 275, 3) := dk_182 1 19 (dk_at dksX2_farMany_0 12 rfl rfl)
theorem dX2_farMany_15 : decode cX2_farMany 15 = .ok (.aload_n 0, 1) := dk_42 (dk_at dksX2_farMany_0 15 rfl rfl)
theorem dX2_farMany_16 : decode cX2_farMany 16 = .ok (.getfield 269, 3) := dk_180 1 13 (dk_at dksX2_farMany_0 16 rfl rfl)
theorem dX2_farMany_19 : decode cX2_farMany 19 = .ok (.ireturn, 1) := dk_172 (dk_at dksX2_farMany_0 19 rfl rfl)
abbrev cX2_farBox : ByteArray := prog_10_method_71_code
def yX2_farBox : MethodName := ⟨RX2, "farBox", "(II)I"⟩
def dkwX2_farBox_2 : List UInt8 := [167, 0, 4, 2, 172]
abbrev dktX2_farBox_2 : List UInt8 := dkwX2_farBox_2 ++ []
def dkwX2_farBox_1 : List UInt8 := [184, 0, 77, 153, 0, 22, 16, 100, 42, 180, 0, 38, 28, 46, 104, 42, 180, 0, 41, 28, 46, 96]
abbrev dktX2_farBox_1 : List UInt8 := dkwX2_farBox_1 ++ dktX2_farBox_2
def dkwX2_farBox_0 : List UInt8 := [42, 27, 182, 0, 216, 154, 0, 5, 3, 172, 42, 27, 182, 1, 19, 28, 3, 42, 180, 1, 13, 4, 100]
abbrev dktX2_farBox_0 : List UInt8 := dkwX2_farBox_0 ++ dktX2_farBox_1
theorem dksX2_farBox_0 : cX2_farBox.data.toList.drop 0 = dktX2_farBox_0 := by decide +kernel
theorem dksX2_farBox_1 : cX2_farBox.data.toList.drop 23 = dktX2_farBox_1 := dk_seg dksX2_farBox_0 23 rfl rfl
theorem dksX2_farBox_2 : cX2_farBox.data.toList.drop 45 = dktX2_farBox_2 := dk_seg dksX2_farBox_1 22 rfl rfl
theorem dX2_farBox_0 : decode cX2_farBox 0 = .ok (.aload_n 0, 1) := dk_42 (dk_at dksX2_farBox_0 0 rfl rfl)
theorem dX2_farBox_1 : decode cX2_farBox 1 = .ok (.iload_n 1, 1) := dk_27 (dk_at dksX2_farBox_0 1 rfl rfl)
theorem dX2_farBox_2 : decode cX2_farBox 2 = .ok (.invokevirtual 216, 3) := dk_182 0 216 (dk_at dksX2_farBox_0 2 rfl rfl)
theorem dX2_farBox_5 : decode cX2_farBox 5 = .ok (.ifCond .ne 5, 3) := dk_154 0 5 (dk_at dksX2_farBox_0 5 rfl rfl)
theorem dX2_farBox_8 : decode cX2_farBox 8 = .ok (.iconst 0, 1) := dk_3 (dk_at dksX2_farBox_0 8 rfl rfl)
theorem dX2_farBox_9 : decode cX2_farBox 9 = .ok (.ireturn, 1) := dk_172 (dk_at dksX2_farBox_0 9 rfl rfl)
theorem dX2_farBox_10 : decode cX2_farBox 10 = .ok (.aload_n 0, 1) := dk_42 (dk_at dksX2_farBox_0 10 rfl rfl)
theorem dX2_farBox_11 : decode cX2_farBox 11 = .ok (.iload_n 1, 1) := dk_27 (dk_at dksX2_farBox_0 11 rfl rfl)
theorem dX2_farBox_12 : decode cX2_farBox 12 = .ok (.invokevirtual 275, 3) := dk_182 1 19 (dk_at dksX2_farBox_0 12 rfl rfl)
theorem dX2_farBox_15 : decode cX2_farBox 15 = .ok (.iload_n 2, 1) := dk_28 (dk_at dksX2_farBox_0 15 rfl rfl)
theorem dX2_farBox_16 : decode cX2_farBox 16 = .ok (.iconst 0, 1) := dk_3 (dk_at dksX2_farBox_0 16 rfl rfl)
theorem dX2_farBox_17 : decode cX2_farBox 17 = .ok (.aload_n 0, 1) := dk_42 (dk_at dksX2_farBox_0 17 rfl rfl)
theorem dX2_farBox_18 : decode cX2_farBox 18 = .ok (.getfield 269, 3) := dk_180 1 13 (dk_at dksX2_farBox_0 18 rfl rfl)
theorem dX2_farBox_21 : decode cX2_farBox 21 = .ok (.iconst 1, 1) := dk_4 (dk_at dksX2_farBox_0 21 rfl rfl)
theorem dX2_farBox_22 : decode cX2_farBox 22 = .ok (.isub, 1) := dk_100 (dk_at dksX2_farBox_0 22 rfl rfl)
theorem dX2_farBox_23 : decode cX2_farBox 23 = .ok (.invokestatic 77, 3) := dk_184 0 77 (dk_at dksX2_farBox_1 0 rfl rfl)
theorem dX2_farBox_26 : decode cX2_farBox 26 = .ok (.ifCond .eq 22, 3) := dk_153 0 22 (dk_at dksX2_farBox_1 3 rfl rfl)
theorem dX2_farBox_29 : decode cX2_farBox 29 = .ok (.bipush 100, 2) := dk_16 100 (dk_at dksX2_farBox_1 6 rfl rfl)
theorem dX2_farBox_31 : decode cX2_farBox 31 = .ok (.aload_n 0, 1) := dk_42 (dk_at dksX2_farBox_1 8 rfl rfl)
theorem dX2_farBox_32 : decode cX2_farBox 32 = .ok (.getfield 38, 3) := dk_180 0 38 (dk_at dksX2_farBox_1 9 rfl rfl)
theorem dX2_farBox_35 : decode cX2_farBox 35 = .ok (.iload_n 2, 1) := dk_28 (dk_at dksX2_farBox_1 12 rfl rfl)
theorem dX2_farBox_36 : decode cX2_farBox 36 = .ok (.iaload, 1) := dk_46 (dk_at dksX2_farBox_1 13 rfl rfl)
theorem dX2_farBox_37 : decode cX2_farBox 37 = .ok (.imul, 1) := dk_104 (dk_at dksX2_farBox_1 14 rfl rfl)
theorem dX2_farBox_38 : decode cX2_farBox 38 = .ok (.aload_n 0, 1) := dk_42 (dk_at dksX2_farBox_1 15 rfl rfl)
theorem dX2_farBox_39 : decode cX2_farBox 39 = .ok (.getfield 41, 3) := dk_180 0 41 (dk_at dksX2_farBox_1 16 rfl rfl)
theorem dX2_farBox_42 : decode cX2_farBox 42 = .ok (.iload_n 2, 1) := dk_28 (dk_at dksX2_farBox_1 19 rfl rfl)
theorem dX2_farBox_43 : decode cX2_farBox 43 = .ok (.iaload, 1) := dk_46 (dk_at dksX2_farBox_1 20 rfl rfl)
theorem dX2_farBox_44 : decode cX2_farBox 44 = .ok (.iadd, 1) := dk_96 (dk_at dksX2_farBox_1 21 rfl rfl)
theorem dX2_farBox_45 : decode cX2_farBox 45 = .ok (.goto 4, 3) := dk_167 0 4 (dk_at dksX2_farBox_2 0 rfl rfl)
theorem dX2_farBox_48 : decode cX2_farBox 48 = .ok (.iconst (-1), 1) := dk_2 (dk_at dksX2_farBox_2 3 rfl rfl)
theorem dX2_farBox_49 : decode cX2_farBox 49 = .ok (.ireturn, 1) := dk_172 (dk_at dksX2_farBox_2 4 rfl rfl)
abbrev cX2_farBodies : ByteArray := prog_10_method_72_code
def yX2_farBodies : MethodName := ⟨RX2, "farBodies", "(I)I"⟩
def dkwX2_farBodies_2 : List UInt8 := [132, 3, 1, 167, 255, 226, 28, 172]
abbrev dktX2_farBodies_2 : List UInt8 := dkwX2_farBodies_2 ++ []
def dkwX2_farBodies_1 : List UInt8 := [162, 0, 28, 28, 42, 42, 180, 0, 38, 29, 46, 42, 180, 0, 41, 29, 46, 182, 0, 190, 96, 61]
abbrev dktX2_farBodies_1 : List UInt8 := dkwX2_farBodies_1 ++ dktX2_farBodies_2
def dkwX2_farBodies_0 : List UInt8 := [42, 27, 182, 0, 216, 154, 0, 5, 3, 172, 42, 27, 182, 1, 19, 3, 61, 3, 62, 29, 42, 180, 1, 13]
abbrev dktX2_farBodies_0 : List UInt8 := dkwX2_farBodies_0 ++ dktX2_farBodies_1
theorem dksX2_farBodies_0 : cX2_farBodies.data.toList.drop 0 = dktX2_farBodies_0 := by decide +kernel
theorem dksX2_farBodies_1 : cX2_farBodies.data.toList.drop 24 = dktX2_farBodies_1 := dk_seg dksX2_farBodies_0 24 rfl rfl
theorem dksX2_farBodies_2 : cX2_farBodies.data.toList.drop 46 = dktX2_farBodies_2 := dk_seg dksX2_farBodies_1 22 rfl rfl
theorem dX2_farBodies_0 : decode cX2_farBodies 0 = .ok (.aload_n 0, 1) := dk_42 (dk_at dksX2_farBodies_0 0 rfl rfl)
theorem dX2_farBodies_1 : decode cX2_farBodies 1 = .ok (.iload_n 1, 1) := dk_27 (dk_at dksX2_farBodies_0 1 rfl rfl)
theorem dX2_farBodies_2 : decode cX2_farBodies 2 = .ok (.invokevirtual 216, 3) := dk_182 0 216 (dk_at dksX2_farBodies_0 2 rfl rfl)
theorem dX2_farBodies_5 : decode cX2_farBodies 5 = .ok (.ifCond .ne 5, 3) := dk_154 0 5 (dk_at dksX2_farBodies_0 5 rfl rfl)
theorem dX2_farBodies_8 : decode cX2_farBodies 8 = .ok (.iconst 0, 1) := dk_3 (dk_at dksX2_farBodies_0 8 rfl rfl)
theorem dX2_farBodies_9 : decode cX2_farBodies 9 = .ok (.ireturn, 1) := dk_172 (dk_at dksX2_farBodies_0 9 rfl rfl)
theorem dX2_farBodies_10 : decode cX2_farBodies 10 = .ok (.aload_n 0, 1) := dk_42 (dk_at dksX2_farBodies_0 10 rfl rfl)
theorem dX2_farBodies_11 : decode cX2_farBodies 11 = .ok (.iload_n 1, 1) := dk_27 (dk_at dksX2_farBodies_0 11 rfl rfl)
theorem dX2_farBodies_12 : decode cX2_farBodies 12 = .ok (.invokevirtual 275, 3) := dk_182 1 19 (dk_at dksX2_farBodies_0 12 rfl rfl)
theorem dX2_farBodies_15 : decode cX2_farBodies 15 = .ok (.iconst 0, 1) := dk_3 (dk_at dksX2_farBodies_0 15 rfl rfl)
theorem dX2_farBodies_16 : decode cX2_farBodies 16 = .ok (.istore_n 2, 1) := dk_61 (dk_at dksX2_farBodies_0 16 rfl rfl)
theorem dX2_farBodies_17 : decode cX2_farBodies 17 = .ok (.iconst 0, 1) := dk_3 (dk_at dksX2_farBodies_0 17 rfl rfl)
theorem dX2_farBodies_18 : decode cX2_farBodies 18 = .ok (.istore_n 3, 1) := dk_62 (dk_at dksX2_farBodies_0 18 rfl rfl)
theorem dX2_farBodies_19 : decode cX2_farBodies 19 = .ok (.iload_n 3, 1) := dk_29 (dk_at dksX2_farBodies_0 19 rfl rfl)
theorem dX2_farBodies_20 : decode cX2_farBodies 20 = .ok (.aload_n 0, 1) := dk_42 (dk_at dksX2_farBodies_0 20 rfl rfl)
theorem dX2_farBodies_21 : decode cX2_farBodies 21 = .ok (.getfield 269, 3) := dk_180 1 13 (dk_at dksX2_farBodies_0 21 rfl rfl)
theorem dX2_farBodies_24 : decode cX2_farBodies 24 = .ok (.if_icmp .ge 28, 3) := dk_162 0 28 (dk_at dksX2_farBodies_1 0 rfl rfl)
theorem dX2_farBodies_27 : decode cX2_farBodies 27 = .ok (.iload_n 2, 1) := dk_28 (dk_at dksX2_farBodies_1 3 rfl rfl)
theorem dX2_farBodies_28 : decode cX2_farBodies 28 = .ok (.aload_n 0, 1) := dk_42 (dk_at dksX2_farBodies_1 4 rfl rfl)
theorem dX2_farBodies_29 : decode cX2_farBodies 29 = .ok (.aload_n 0, 1) := dk_42 (dk_at dksX2_farBodies_1 5 rfl rfl)
theorem dX2_farBodies_30 : decode cX2_farBodies 30 = .ok (.getfield 38, 3) := dk_180 0 38 (dk_at dksX2_farBodies_1 6 rfl rfl)
theorem dX2_farBodies_33 : decode cX2_farBodies 33 = .ok (.iload_n 3, 1) := dk_29 (dk_at dksX2_farBodies_1 9 rfl rfl)
theorem dX2_farBodies_34 : decode cX2_farBodies 34 = .ok (.iaload, 1) := dk_46 (dk_at dksX2_farBodies_1 10 rfl rfl)
theorem dX2_farBodies_35 : decode cX2_farBodies 35 = .ok (.aload_n 0, 1) := dk_42 (dk_at dksX2_farBodies_1 11 rfl rfl)
theorem dX2_farBodies_36 : decode cX2_farBodies 36 = .ok (.getfield 41, 3) := dk_180 0 41 (dk_at dksX2_farBodies_1 12 rfl rfl)
theorem dX2_farBodies_39 : decode cX2_farBodies 39 = .ok (.iload_n 3, 1) := dk_29 (dk_at dksX2_farBodies_1 15 rfl rfl)
theorem dX2_farBodies_40 : decode cX2_farBodies 40 = .ok (.iaload, 1) := dk_46 (dk_at dksX2_farBodies_1 16 rfl rfl)
theorem dX2_farBodies_41 : decode cX2_farBodies 41 = .ok (.invokevirtual 190, 3) := dk_182 0 190 (dk_at dksX2_farBodies_1 17 rfl rfl)
theorem dX2_farBodies_44 : decode cX2_farBodies 44 = .ok (.iadd, 1) := dk_96 (dk_at dksX2_farBodies_1 20 rfl rfl)
theorem dX2_farBodies_45 : decode cX2_farBodies 45 = .ok (.istore_n 2, 1) := dk_61 (dk_at dksX2_farBodies_1 21 rfl rfl)
theorem dX2_farBodies_46 : decode cX2_farBodies 46 = .ok (.iinc 3 1, 3) := dk_132 3 1 (dk_at dksX2_farBodies_2 0 rfl rfl)
theorem dX2_farBodies_49 : decode cX2_farBodies 49 = .ok (.goto (-30), 3) := dk_167 255 226 (dk_at dksX2_farBodies_2 3 rfl rfl)
theorem dX2_farBodies_52 : decode cX2_farBodies 52 = .ok (.iload_n 2, 1) := dk_28 (dk_at dksX2_farBodies_2 6 rfl rfl)
theorem dX2_farBodies_53 : decode cX2_farBodies 53 = .ok (.ireturn, 1) := dk_172 (dk_at dksX2_farBodies_2 7 rfl rfl)
abbrev cX2_isPair : ByteArray := prog_10_method_73_code
def yX2_isPair : MethodName := ⟨RX2, "isPair", "(III)Z"⟩
def dkwX2_isPair_5 : List UInt8 := [42, 28, 3, 182, 0, 163, 184, 0, 178, 160, 0, 7, 4, 167, 0, 4, 3, 172]
abbrev dktX2_isPair_5 : List UInt8 := dkwX2_isPair_5 ++ []
def dkwX2_isPair_4 : List UInt8 := [167, 0, 41, 42, 180, 0, 9, 6, 46, 42, 27, 3, 182, 0, 163, 184, 0, 178, 42, 180, 0, 9, 6, 46]
abbrev dktX2_isPair_4 : List UInt8 := dkwX2_isPair_4 ++ dktX2_isPair_5
def dkwX2_isPair_3 : List UInt8 := [4, 167, 0, 4, 3, 172, 29, 5, 160, 0, 17, 42, 27, 42, 28, 3, 182, 0, 163, 182, 1, 7]
abbrev dktX2_isPair_3 : List UInt8 := dkwX2_isPair_3 ++ dktX2_isPair_4
def dkwX2_isPair_2 : List UInt8 := [167, 0, 4, 3, 160, 0, 7, 4, 167, 0, 4, 3, 29, 154, 0, 7, 4, 167, 0, 4, 3, 160, 0, 7]
abbrev dktX2_isPair_2 : List UInt8 := dkwX2_isPair_2 ++ dktX2_isPair_3
def dkwX2_isPair_1 : List UInt8 := [4, 182, 0, 163, 158, 0, 7, 4, 167, 0, 4, 3, 42, 28, 4, 182, 0, 163, 158, 0, 7, 4]
abbrev dktX2_isPair_1 : List UInt8 := dkwX2_isPair_1 ++ dktX2_isPair_2
def dkwX2_isPair_0 : List UInt8 := [42, 27, 3, 182, 0, 163, 42, 28, 3, 182, 0, 163, 160, 0, 5, 3, 172, 29, 5, 162, 0, 57, 42, 27]
abbrev dktX2_isPair_0 : List UInt8 := dkwX2_isPair_0 ++ dktX2_isPair_1
theorem dksX2_isPair_0 : cX2_isPair.data.toList.drop 0 = dktX2_isPair_0 := by decide +kernel
theorem dksX2_isPair_1 : cX2_isPair.data.toList.drop 24 = dktX2_isPair_1 := dk_seg dksX2_isPair_0 24 rfl rfl
theorem dksX2_isPair_2 : cX2_isPair.data.toList.drop 46 = dktX2_isPair_2 := dk_seg dksX2_isPair_1 22 rfl rfl
theorem dksX2_isPair_3 : cX2_isPair.data.toList.drop 70 = dktX2_isPair_3 := dk_seg dksX2_isPair_2 24 rfl rfl
theorem dksX2_isPair_4 : cX2_isPair.data.toList.drop 92 = dktX2_isPair_4 := dk_seg dksX2_isPair_3 22 rfl rfl
theorem dksX2_isPair_5 : cX2_isPair.data.toList.drop 116 = dktX2_isPair_5 := dk_seg dksX2_isPair_4 24 rfl rfl
theorem dX2_isPair_0 : decode cX2_isPair 0 = .ok (.aload_n 0, 1) := dk_42 (dk_at dksX2_isPair_0 0 rfl rfl)
theorem dX2_isPair_1 : decode cX2_isPair 1 = .ok (.iload_n 1, 1) := dk_27 (dk_at dksX2_isPair_0 1 rfl rfl)
theorem dX2_isPair_2 : decode cX2_isPair 2 = .ok (.iconst 0, 1) := dk_3 (dk_at dksX2_isPair_0 2 rfl rfl)
theorem dX2_isPair_3 : decode cX2_isPair 3 = .ok (.invokevirtual 163, 3) := dk_182 0 163 (dk_at dksX2_isPair_0 3 rfl rfl)
theorem dX2_isPair_6 : decode cX2_isPair 6 = .ok (.aload_n 0, 1) := dk_42 (dk_at dksX2_isPair_0 6 rfl rfl)
theorem dX2_isPair_7 : decode cX2_isPair 7 = .ok (.iload_n 2, 1) := dk_28 (dk_at dksX2_isPair_0 7 rfl rfl)
theorem dX2_isPair_8 : decode cX2_isPair 8 = .ok (.iconst 0, 1) := dk_3 (dk_at dksX2_isPair_0 8 rfl rfl)
theorem dX2_isPair_9 : decode cX2_isPair 9 = .ok (.invokevirtual 163, 3) := dk_182 0 163 (dk_at dksX2_isPair_0 9 rfl rfl)
theorem dX2_isPair_12 : decode cX2_isPair 12 = .ok (.if_icmp .ne 5, 3) := dk_160 0 5 (dk_at dksX2_isPair_0 12 rfl rfl)
theorem dX2_isPair_15 : decode cX2_isPair 15 = .ok (.iconst 0, 1) := dk_3 (dk_at dksX2_isPair_0 15 rfl rfl)
theorem dX2_isPair_16 : decode cX2_isPair 16 = .ok (.ireturn, 1) := dk_172 (dk_at dksX2_isPair_0 16 rfl rfl)
theorem dX2_isPair_17 : decode cX2_isPair 17 = .ok (.iload_n 3, 1) := dk_29 (dk_at dksX2_isPair_0 17 rfl rfl)
theorem dX2_isPair_18 : decode cX2_isPair 18 = .ok (.iconst 2, 1) := dk_5 (dk_at dksX2_isPair_0 18 rfl rfl)
theorem dX2_isPair_19 : decode cX2_isPair 19 = .ok (.if_icmp .ge 57, 3) := dk_162 0 57 (dk_at dksX2_isPair_0 19 rfl rfl)
theorem dX2_isPair_22 : decode cX2_isPair 22 = .ok (.aload_n 0, 1) := dk_42 (dk_at dksX2_isPair_0 22 rfl rfl)
theorem dX2_isPair_23 : decode cX2_isPair 23 = .ok (.iload_n 1, 1) := dk_27 (dk_at dksX2_isPair_0 23 rfl rfl)
theorem dX2_isPair_24 : decode cX2_isPair 24 = .ok (.iconst 1, 1) := dk_4 (dk_at dksX2_isPair_1 0 rfl rfl)
theorem dX2_isPair_25 : decode cX2_isPair 25 = .ok (.invokevirtual 163, 3) := dk_182 0 163 (dk_at dksX2_isPair_1 1 rfl rfl)
theorem dX2_isPair_28 : decode cX2_isPair 28 = .ok (.ifCond .le 7, 3) := dk_158 0 7 (dk_at dksX2_isPair_1 4 rfl rfl)
theorem dX2_isPair_31 : decode cX2_isPair 31 = .ok (.iconst 1, 1) := dk_4 (dk_at dksX2_isPair_1 7 rfl rfl)
theorem dX2_isPair_32 : decode cX2_isPair 32 = .ok (.goto 4, 3) := dk_167 0 4 (dk_at dksX2_isPair_1 8 rfl rfl)
theorem dX2_isPair_35 : decode cX2_isPair 35 = .ok (.iconst 0, 1) := dk_3 (dk_at dksX2_isPair_1 11 rfl rfl)
theorem dX2_isPair_36 : decode cX2_isPair 36 = .ok (.aload_n 0, 1) := dk_42 (dk_at dksX2_isPair_1 12 rfl rfl)
theorem dX2_isPair_37 : decode cX2_isPair 37 = .ok (.iload_n 2, 1) := dk_28 (dk_at dksX2_isPair_1 13 rfl rfl)
theorem dX2_isPair_38 : decode cX2_isPair 38 = .ok (.iconst 1, 1) := dk_4 (dk_at dksX2_isPair_1 14 rfl rfl)
theorem dX2_isPair_39 : decode cX2_isPair 39 = .ok (.invokevirtual 163, 3) := dk_182 0 163 (dk_at dksX2_isPair_1 15 rfl rfl)
theorem dX2_isPair_42 : decode cX2_isPair 42 = .ok (.ifCond .le 7, 3) := dk_158 0 7 (dk_at dksX2_isPair_1 18 rfl rfl)
theorem dX2_isPair_45 : decode cX2_isPair 45 = .ok (.iconst 1, 1) := dk_4 (dk_at dksX2_isPair_1 21 rfl rfl)
theorem dX2_isPair_46 : decode cX2_isPair 46 = .ok (.goto 4, 3) := dk_167 0 4 (dk_at dksX2_isPair_2 0 rfl rfl)
theorem dX2_isPair_49 : decode cX2_isPair 49 = .ok (.iconst 0, 1) := dk_3 (dk_at dksX2_isPair_2 3 rfl rfl)
theorem dX2_isPair_50 : decode cX2_isPair 50 = .ok (.if_icmp .ne 7, 3) := dk_160 0 7 (dk_at dksX2_isPair_2 4 rfl rfl)
theorem dX2_isPair_53 : decode cX2_isPair 53 = .ok (.iconst 1, 1) := dk_4 (dk_at dksX2_isPair_2 7 rfl rfl)
theorem dX2_isPair_54 : decode cX2_isPair 54 = .ok (.goto 4, 3) := dk_167 0 4 (dk_at dksX2_isPair_2 8 rfl rfl)
theorem dX2_isPair_57 : decode cX2_isPair 57 = .ok (.iconst 0, 1) := dk_3 (dk_at dksX2_isPair_2 11 rfl rfl)
theorem dX2_isPair_58 : decode cX2_isPair 58 = .ok (.iload_n 3, 1) := dk_29 (dk_at dksX2_isPair_2 12 rfl rfl)
theorem dX2_isPair_59 : decode cX2_isPair 59 = .ok (.ifCond .ne 7, 3) := dk_154 0 7 (dk_at dksX2_isPair_2 13 rfl rfl)
theorem dX2_isPair_62 : decode cX2_isPair 62 = .ok (.iconst 1, 1) := dk_4 (dk_at dksX2_isPair_2 16 rfl rfl)
theorem dX2_isPair_63 : decode cX2_isPair 63 = .ok (.goto 4, 3) := dk_167 0 4 (dk_at dksX2_isPair_2 17 rfl rfl)
theorem dX2_isPair_66 : decode cX2_isPair 66 = .ok (.iconst 0, 1) := dk_3 (dk_at dksX2_isPair_2 20 rfl rfl)
theorem dX2_isPair_67 : decode cX2_isPair 67 = .ok (.if_icmp .ne 7, 3) := dk_160 0 7 (dk_at dksX2_isPair_2 21 rfl rfl)
theorem dX2_isPair_70 : decode cX2_isPair 70 = .ok (.iconst 1, 1) := dk_4 (dk_at dksX2_isPair_3 0 rfl rfl)
theorem dX2_isPair_71 : decode cX2_isPair 71 = .ok (.goto 4, 3) := dk_167 0 4 (dk_at dksX2_isPair_3 1 rfl rfl)
theorem dX2_isPair_74 : decode cX2_isPair 74 = .ok (.iconst 0, 1) := dk_3 (dk_at dksX2_isPair_3 4 rfl rfl)
theorem dX2_isPair_75 : decode cX2_isPair 75 = .ok (.ireturn, 1) := dk_172 (dk_at dksX2_isPair_3 5 rfl rfl)
theorem dX2_isPair_76 : decode cX2_isPair 76 = .ok (.iload_n 3, 1) := dk_29 (dk_at dksX2_isPair_3 6 rfl rfl)
theorem dX2_isPair_77 : decode cX2_isPair 77 = .ok (.iconst 2, 1) := dk_5 (dk_at dksX2_isPair_3 7 rfl rfl)
theorem dX2_isPair_78 : decode cX2_isPair 78 = .ok (.if_icmp .ne 17, 3) := dk_160 0 17 (dk_at dksX2_isPair_3 8 rfl rfl)
theorem dX2_isPair_81 : decode cX2_isPair 81 = .ok (.aload_n 0, 1) := dk_42 (dk_at dksX2_isPair_3 11 rfl rfl)
theorem dX2_isPair_82 : decode cX2_isPair 82 = .ok (.iload_n 1, 1) := dk_27 (dk_at dksX2_isPair_3 12 rfl rfl)
theorem dX2_isPair_83 : decode cX2_isPair 83 = .ok (.aload_n 0, 1) := dk_42 (dk_at dksX2_isPair_3 13 rfl rfl)
theorem dX2_isPair_84 : decode cX2_isPair 84 = .ok (.iload_n 2, 1) := dk_28 (dk_at dksX2_isPair_3 14 rfl rfl)
theorem dX2_isPair_85 : decode cX2_isPair 85 = .ok (.iconst 0, 1) := dk_3 (dk_at dksX2_isPair_3 15 rfl rfl)
theorem dX2_isPair_86 : decode cX2_isPair 86 = .ok (.invokevirtual 163, 3) := dk_182 0 163 (dk_at dksX2_isPair_3 16 rfl rfl)
theorem dX2_isPair_89 : decode cX2_isPair 89 = .ok (.invokevirtual 263, 3) := dk_182 1 7 (dk_at dksX2_isPair_3 19 rfl rfl)
theorem dX2_isPair_92 : decode cX2_isPair 92 = .ok (.goto 41, 3) := dk_167 0 41 (dk_at dksX2_isPair_4 0 rfl rfl)
theorem dX2_isPair_95 : decode cX2_isPair 95 = .ok (.aload_n 0, 1) := dk_42 (dk_at dksX2_isPair_4 3 rfl rfl)
theorem dX2_isPair_96 : decode cX2_isPair 96 = .ok (.getfield 9, 3) := dk_180 0 9 (dk_at dksX2_isPair_4 4 rfl rfl)
theorem dX2_isPair_99 : decode cX2_isPair 99 = .ok (.iconst 3, 1) := dk_6 (dk_at dksX2_isPair_4 7 rfl rfl)
theorem dX2_isPair_100 : decode cX2_isPair 100 = .ok (.iaload, 1) := dk_46 (dk_at dksX2_isPair_4 8 rfl rfl)
theorem dX2_isPair_101 : decode cX2_isPair 101 = .ok (.aload_n 0, 1) := dk_42 (dk_at dksX2_isPair_4 9 rfl rfl)
theorem dX2_isPair_102 : decode cX2_isPair 102 = .ok (.iload_n 1, 1) := dk_27 (dk_at dksX2_isPair_4 10 rfl rfl)
theorem dX2_isPair_103 : decode cX2_isPair 103 = .ok (.iconst 0, 1) := dk_3 (dk_at dksX2_isPair_4 11 rfl rfl)
theorem dX2_isPair_104 : decode cX2_isPair 104 = .ok (.invokevirtual 163, 3) := dk_182 0 163 (dk_at dksX2_isPair_4 12 rfl rfl)
theorem dX2_isPair_107 : decode cX2_isPair 107 = .ok (.invokestatic 178, 3) := dk_184 0 178 (dk_at dksX2_isPair_4 15 rfl rfl)
theorem dX2_isPair_110 : decode cX2_isPair 110 = .ok (.aload_n 0, 1) := dk_42 (dk_at dksX2_isPair_4 18 rfl rfl)
theorem dX2_isPair_111 : decode cX2_isPair 111 = .ok (.getfield 9, 3) := dk_180 0 9 (dk_at dksX2_isPair_4 19 rfl rfl)
theorem dX2_isPair_114 : decode cX2_isPair 114 = .ok (.iconst 3, 1) := dk_6 (dk_at dksX2_isPair_4 22 rfl rfl)
theorem dX2_isPair_115 : decode cX2_isPair 115 = .ok (.iaload, 1) := dk_46 (dk_at dksX2_isPair_4 23 rfl rfl)
theorem dX2_isPair_116 : decode cX2_isPair 116 = .ok (.aload_n 0, 1) := dk_42 (dk_at dksX2_isPair_5 0 rfl rfl)
theorem dX2_isPair_117 : decode cX2_isPair 117 = .ok (.iload_n 2, 1) := dk_28 (dk_at dksX2_isPair_5 1 rfl rfl)
theorem dX2_isPair_118 : decode cX2_isPair 118 = .ok (.iconst 0, 1) := dk_3 (dk_at dksX2_isPair_5 2 rfl rfl)
theorem dX2_isPair_119 : decode cX2_isPair 119 = .ok (.invokevirtual 163, 3) := dk_182 0 163 (dk_at dksX2_isPair_5 3 rfl rfl)
theorem dX2_isPair_122 : decode cX2_isPair 122 = .ok (.invokestatic 178, 3) := dk_184 0 178 (dk_at dksX2_isPair_5 6 rfl rfl)
theorem dX2_isPair_125 : decode cX2_isPair 125 = .ok (.if_icmp .ne 7, 3) := dk_160 0 7 (dk_at dksX2_isPair_5 9 rfl rfl)
theorem dX2_isPair_128 : decode cX2_isPair 128 = .ok (.iconst 1, 1) := dk_4 (dk_at dksX2_isPair_5 12 rfl rfl)
theorem dX2_isPair_129 : decode cX2_isPair 129 = .ok (.goto 4, 3) := dk_167 0 4 (dk_at dksX2_isPair_5 13 rfl rfl)
theorem dX2_isPair_132 : decode cX2_isPair 132 = .ok (.iconst 0, 1) := dk_3 (dk_at dksX2_isPair_5 16 rfl rfl)
theorem dX2_isPair_133 : decode cX2_isPair 133 = .ok (.ireturn, 1) := dk_172 (dk_at dksX2_isPair_5 17 rfl rfl)
abbrev cX2_pairs : ByteArray := prog_10_method_74_code
def yX2_pairs : MethodName := ⟨RX2, "pairs", "(I)I"⟩
def dkwX2_pairs_3 : List UInt8 := [132, 3, 1, 167, 255, 207, 28, 172]
abbrev dktX2_pairs_3 : List UInt8 := dkwX2_pairs_3 ++ []
def dkwX2_pairs_2 : List UInt8 := [162, 0, 23, 28, 42, 29, 21, 4, 27, 182, 1, 22, 184, 0, 170, 96, 61, 132, 4, 1, 167, 255, 228]
abbrev dktX2_pairs_2 : List UInt8 := dkwX2_pairs_2 ++ dktX2_pairs_3
def dkwX2_pairs_1 : List UInt8 := [42, 180, 0, 9, 3, 46, 162, 0, 45, 29, 4, 96, 54, 4, 21, 4, 42, 180, 0, 9, 3, 46]
abbrev dktX2_pairs_1 : List UInt8 := dkwX2_pairs_1 ++ dktX2_pairs_2
def dkwX2_pairs_0 : List UInt8 := [42, 42, 180, 0, 156, 27, 3, 6, 184, 0, 77, 182, 0, 193, 154, 0, 5, 3, 172, 3, 61, 3, 62, 29]
abbrev dktX2_pairs_0 : List UInt8 := dkwX2_pairs_0 ++ dktX2_pairs_1
theorem dksX2_pairs_0 : cX2_pairs.data.toList.drop 0 = dktX2_pairs_0 := by decide +kernel
theorem dksX2_pairs_1 : cX2_pairs.data.toList.drop 24 = dktX2_pairs_1 := dk_seg dksX2_pairs_0 24 rfl rfl
theorem dksX2_pairs_2 : cX2_pairs.data.toList.drop 46 = dktX2_pairs_2 := dk_seg dksX2_pairs_1 22 rfl rfl
theorem dksX2_pairs_3 : cX2_pairs.data.toList.drop 69 = dktX2_pairs_3 := dk_seg dksX2_pairs_2 23 rfl rfl
theorem dX2_pairs_0 : decode cX2_pairs 0 = .ok (.aload_n 0, 1) := dk_42 (dk_at dksX2_pairs_0 0 rfl rfl)
theorem dX2_pairs_1 : decode cX2_pairs 1 = .ok (.aload_n 0, 1) := dk_42 (dk_at dksX2_pairs_0 1 rfl rfl)
theorem dX2_pairs_2 : decode cX2_pairs 2 = .ok (.getfield 156, 3) := dk_180 0 156 (dk_at dksX2_pairs_0 2 rfl rfl)
theorem dX2_pairs_5 : decode cX2_pairs 5 = .ok (.iload_n 1, 1) := dk_27 (dk_at dksX2_pairs_0 5 rfl rfl)
theorem dX2_pairs_6 : decode cX2_pairs 6 = .ok (.iconst 0, 1) := dk_3 (dk_at dksX2_pairs_0 6 rfl rfl)
theorem dX2_pairs_7 : decode cX2_pairs 7 = .ok (.iconst 3, 1) := dk_6 (dk_at dksX2_pairs_0 7 rfl rfl)
theorem dX2_pairs_8 : decode cX2_pairs 8 = .ok (.invokestatic 77, 3) := dk_184 0 77 (dk_at dksX2_pairs_0 8 rfl rfl)
theorem dX2_pairs_11 : decode cX2_pairs 11 = .ok (.invokevirtual 193, 3) := dk_182 0 193 (dk_at dksX2_pairs_0 11 rfl rfl)
theorem dX2_pairs_14 : decode cX2_pairs 14 = .ok (.ifCond .ne 5, 3) := dk_154 0 5 (dk_at dksX2_pairs_0 14 rfl rfl)
theorem dX2_pairs_17 : decode cX2_pairs 17 = .ok (.iconst 0, 1) := dk_3 (dk_at dksX2_pairs_0 17 rfl rfl)
theorem dX2_pairs_18 : decode cX2_pairs 18 = .ok (.ireturn, 1) := dk_172 (dk_at dksX2_pairs_0 18 rfl rfl)
theorem dX2_pairs_19 : decode cX2_pairs 19 = .ok (.iconst 0, 1) := dk_3 (dk_at dksX2_pairs_0 19 rfl rfl)
theorem dX2_pairs_20 : decode cX2_pairs 20 = .ok (.istore_n 2, 1) := dk_61 (dk_at dksX2_pairs_0 20 rfl rfl)
theorem dX2_pairs_21 : decode cX2_pairs 21 = .ok (.iconst 0, 1) := dk_3 (dk_at dksX2_pairs_0 21 rfl rfl)
theorem dX2_pairs_22 : decode cX2_pairs 22 = .ok (.istore_n 3, 1) := dk_62 (dk_at dksX2_pairs_0 22 rfl rfl)
theorem dX2_pairs_23 : decode cX2_pairs 23 = .ok (.iload_n 3, 1) := dk_29 (dk_at dksX2_pairs_0 23 rfl rfl)
theorem dX2_pairs_24 : decode cX2_pairs 24 = .ok (.aload_n 0, 1) := dk_42 (dk_at dksX2_pairs_1 0 rfl rfl)
theorem dX2_pairs_25 : decode cX2_pairs 25 = .ok (.getfield 9, 3) := dk_180 0 9 (dk_at dksX2_pairs_1 1 rfl rfl)
theorem dX2_pairs_28 : decode cX2_pairs 28 = .ok (.iconst 0, 1) := dk_3 (dk_at dksX2_pairs_1 4 rfl rfl)
theorem dX2_pairs_29 : decode cX2_pairs 29 = .ok (.iaload, 1) := dk_46 (dk_at dksX2_pairs_1 5 rfl rfl)
theorem dX2_pairs_30 : decode cX2_pairs 30 = .ok (.if_icmp .ge 45, 3) := dk_162 0 45 (dk_at dksX2_pairs_1 6 rfl rfl)
theorem dX2_pairs_33 : decode cX2_pairs 33 = .ok (.iload_n 3, 1) := dk_29 (dk_at dksX2_pairs_1 9 rfl rfl)
theorem dX2_pairs_34 : decode cX2_pairs 34 = .ok (.iconst 1, 1) := dk_4 (dk_at dksX2_pairs_1 10 rfl rfl)
theorem dX2_pairs_35 : decode cX2_pairs 35 = .ok (.iadd, 1) := dk_96 (dk_at dksX2_pairs_1 11 rfl rfl)
theorem dX2_pairs_36 : decode cX2_pairs 36 = .ok (.istore 4, 2) := dk_54 4 (dk_at dksX2_pairs_1 12 rfl rfl)
theorem dX2_pairs_38 : decode cX2_pairs 38 = .ok (.iload 4, 2) := dk_21 4 (dk_at dksX2_pairs_1 14 rfl rfl)
theorem dX2_pairs_40 : decode cX2_pairs 40 = .ok (.aload_n 0, 1) := dk_42 (dk_at dksX2_pairs_1 16 rfl rfl)
theorem dX2_pairs_41 : decode cX2_pairs 41 = .ok (.getfield 9, 3) := dk_180 0 9 (dk_at dksX2_pairs_1 17 rfl rfl)
theorem dX2_pairs_44 : decode cX2_pairs 44 = .ok (.iconst 0, 1) := dk_3 (dk_at dksX2_pairs_1 20 rfl rfl)
theorem dX2_pairs_45 : decode cX2_pairs 45 = .ok (.iaload, 1) := dk_46 (dk_at dksX2_pairs_1 21 rfl rfl)
theorem dX2_pairs_46 : decode cX2_pairs 46 = .ok (.if_icmp .ge 23, 3) := dk_162 0 23 (dk_at dksX2_pairs_2 0 rfl rfl)
theorem dX2_pairs_49 : decode cX2_pairs 49 = .ok (.iload_n 2, 1) := dk_28 (dk_at dksX2_pairs_2 3 rfl rfl)
theorem dX2_pairs_50 : decode cX2_pairs 50 = .ok (.aload_n 0, 1) := dk_42 (dk_at dksX2_pairs_2 4 rfl rfl)
theorem dX2_pairs_51 : decode cX2_pairs 51 = .ok (.iload_n 3, 1) := dk_29 (dk_at dksX2_pairs_2 5 rfl rfl)
theorem dX2_pairs_52 : decode cX2_pairs 52 = .ok (.iload 4, 2) := dk_21 4 (dk_at dksX2_pairs_2 6 rfl rfl)
theorem dX2_pairs_54 : decode cX2_pairs 54 = .ok (.iload_n 1, 1) := dk_27 (dk_at dksX2_pairs_2 8 rfl rfl)
theorem dX2_pairs_55 : decode cX2_pairs 55 = .ok (.invokevirtual 278, 3) := dk_182 1 22 (dk_at dksX2_pairs_2 9 rfl rfl)
theorem dX2_pairs_58 : decode cX2_pairs 58 = .ok (.invokestatic 170, 3) := dk_184 0 170 (dk_at dksX2_pairs_2 12 rfl rfl)
theorem dX2_pairs_61 : decode cX2_pairs 61 = .ok (.iadd, 1) := dk_96 (dk_at dksX2_pairs_2 15 rfl rfl)
theorem dX2_pairs_62 : decode cX2_pairs 62 = .ok (.istore_n 2, 1) := dk_61 (dk_at dksX2_pairs_2 16 rfl rfl)
theorem dX2_pairs_63 : decode cX2_pairs 63 = .ok (.iinc 4 1, 3) := dk_132 4 1 (dk_at dksX2_pairs_2 17 rfl rfl)
theorem dX2_pairs_66 : decode cX2_pairs 66 = .ok (.goto (-28), 3) := dk_167 255 228 (dk_at dksX2_pairs_2 20 rfl rfl)
theorem dX2_pairs_69 : decode cX2_pairs 69 = .ok (.iinc 3 1, 3) := dk_132 3 1 (dk_at dksX2_pairs_3 0 rfl rfl)
theorem dX2_pairs_72 : decode cX2_pairs 72 = .ok (.goto (-49), 3) := dk_167 255 207 (dk_at dksX2_pairs_3 3 rfl rfl)
theorem dX2_pairs_75 : decode cX2_pairs 75 = .ok (.iload_n 2, 1) := dk_28 (dk_at dksX2_pairs_3 6 rfl rfl)
theorem dX2_pairs_76 : decode cX2_pairs 76 = .ok (.ireturn, 1) := dk_172 (dk_at dksX2_pairs_3 7 rfl rfl)
abbrev cX2_costOf : ByteArray := prog_10_method_75_code
def yX2_costOf : MethodName := ⟨RX2, "costOf", "(IZ)I"⟩
def dkwX2_costOf_3 : List UInt8 := [29, 42, 180, 0, 9, 7, 46, 4, 96, 42, 180, 1, 13, 104, 96, 172]
abbrev dktX2_costOf_3 : List UInt8 := dkwX2_costOf_3 ++ []
def dkwX2_costOf_2 : List UInt8 := [184, 0, 170, 96, 62, 132, 4, 1, 167, 255, 206, 42, 27, 182, 1, 19, 28, 153, 0, 7, 29, 167, 0, 18]
abbrev dktX2_costOf_2 : List UInt8 := dkwX2_costOf_2 ++ dktX2_costOf_3
def dkwX2_costOf_1 : List UInt8 := [27, 159, 0, 21, 28, 154, 0, 13, 42, 21, 4, 27, 182, 1, 7, 153, 0, 7, 4, 167, 0, 4, 3]
abbrev dktX2_costOf_1 : List UInt8 := dkwX2_costOf_1 ++ dktX2_costOf_2
def dkwX2_costOf_0 : List UInt8 := [3, 62, 3, 54, 4, 21, 4, 42, 180, 0, 9, 3, 46, 162, 0, 45, 29, 42, 21, 4, 3, 182, 0, 163]
abbrev dktX2_costOf_0 : List UInt8 := dkwX2_costOf_0 ++ dktX2_costOf_1
theorem dksX2_costOf_0 : cX2_costOf.data.toList.drop 0 = dktX2_costOf_0 := by decide +kernel
theorem dksX2_costOf_1 : cX2_costOf.data.toList.drop 24 = dktX2_costOf_1 := dk_seg dksX2_costOf_0 24 rfl rfl
theorem dksX2_costOf_2 : cX2_costOf.data.toList.drop 47 = dktX2_costOf_2 := dk_seg dksX2_costOf_1 23 rfl rfl
theorem dksX2_costOf_3 : cX2_costOf.data.toList.drop 71 = dktX2_costOf_3 := dk_seg dksX2_costOf_2 24 rfl rfl
theorem dX2_costOf_0 : decode cX2_costOf 0 = .ok (.iconst 0, 1) := dk_3 (dk_at dksX2_costOf_0 0 rfl rfl)
theorem dX2_costOf_1 : decode cX2_costOf 1 = .ok (.istore_n 3, 1) := dk_62 (dk_at dksX2_costOf_0 1 rfl rfl)
theorem dX2_costOf_2 : decode cX2_costOf 2 = .ok (.iconst 0, 1) := dk_3 (dk_at dksX2_costOf_0 2 rfl rfl)
theorem dX2_costOf_3 : decode cX2_costOf 3 = .ok (.istore 4, 2) := dk_54 4 (dk_at dksX2_costOf_0 3 rfl rfl)
theorem dX2_costOf_5 : decode cX2_costOf 5 = .ok (.iload 4, 2) := dk_21 4 (dk_at dksX2_costOf_0 5 rfl rfl)
theorem dX2_costOf_7 : decode cX2_costOf 7 = .ok (.aload_n 0, 1) := dk_42 (dk_at dksX2_costOf_0 7 rfl rfl)
theorem dX2_costOf_8 : decode cX2_costOf 8 = .ok (.getfield 9, 3) := dk_180 0 9 (dk_at dksX2_costOf_0 8 rfl rfl)
theorem dX2_costOf_11 : decode cX2_costOf 11 = .ok (.iconst 0, 1) := dk_3 (dk_at dksX2_costOf_0 11 rfl rfl)
theorem dX2_costOf_12 : decode cX2_costOf 12 = .ok (.iaload, 1) := dk_46 (dk_at dksX2_costOf_0 12 rfl rfl)
theorem dX2_costOf_13 : decode cX2_costOf 13 = .ok (.if_icmp .ge 45, 3) := dk_162 0 45 (dk_at dksX2_costOf_0 13 rfl rfl)
theorem dX2_costOf_16 : decode cX2_costOf 16 = .ok (.iload_n 3, 1) := dk_29 (dk_at dksX2_costOf_0 16 rfl rfl)
theorem dX2_costOf_17 : decode cX2_costOf 17 = .ok (.aload_n 0, 1) := dk_42 (dk_at dksX2_costOf_0 17 rfl rfl)
theorem dX2_costOf_18 : decode cX2_costOf 18 = .ok (.iload 4, 2) := dk_21 4 (dk_at dksX2_costOf_0 18 rfl rfl)
theorem dX2_costOf_20 : decode cX2_costOf 20 = .ok (.iconst 0, 1) := dk_3 (dk_at dksX2_costOf_0 20 rfl rfl)
theorem dX2_costOf_21 : decode cX2_costOf 21 = .ok (.invokevirtual 163, 3) := dk_182 0 163 (dk_at dksX2_costOf_0 21 rfl rfl)
theorem dX2_costOf_24 : decode cX2_costOf 24 = .ok (.iload_n 1, 1) := dk_27 (dk_at dksX2_costOf_1 0 rfl rfl)
theorem dX2_costOf_25 : decode cX2_costOf 25 = .ok (.if_icmp .eq 21, 3) := dk_159 0 21 (dk_at dksX2_costOf_1 1 rfl rfl)
theorem dX2_costOf_28 : decode cX2_costOf 28 = .ok (.iload_n 2, 1) := dk_28 (dk_at dksX2_costOf_1 4 rfl rfl)
theorem dX2_costOf_29 : decode cX2_costOf 29 = .ok (.ifCond .ne 13, 3) := dk_154 0 13 (dk_at dksX2_costOf_1 5 rfl rfl)
theorem dX2_costOf_32 : decode cX2_costOf 32 = .ok (.aload_n 0, 1) := dk_42 (dk_at dksX2_costOf_1 8 rfl rfl)
theorem dX2_costOf_33 : decode cX2_costOf 33 = .ok (.iload 4, 2) := dk_21 4 (dk_at dksX2_costOf_1 9 rfl rfl)
theorem dX2_costOf_35 : decode cX2_costOf 35 = .ok (.iload_n 1, 1) := dk_27 (dk_at dksX2_costOf_1 11 rfl rfl)
theorem dX2_costOf_36 : decode cX2_costOf 36 = .ok (.invokevirtual 263, 3) := dk_182 1 7 (dk_at dksX2_costOf_1 12 rfl rfl)
theorem dX2_costOf_39 : decode cX2_costOf 39 = .ok (.ifCond .eq 7, 3) := dk_153 0 7 (dk_at dksX2_costOf_1 15 rfl rfl)
theorem dX2_costOf_42 : decode cX2_costOf 42 = .ok (.iconst 1, 1) := dk_4 (dk_at dksX2_costOf_1 18 rfl rfl)
theorem dX2_costOf_43 : decode cX2_costOf 43 = .ok (.goto 4, 3) := dk_167 0 4 (dk_at dksX2_costOf_1 19 rfl rfl)
theorem dX2_costOf_46 : decode cX2_costOf 46 = .ok (.iconst 0, 1) := dk_3 (dk_at dksX2_costOf_1 22 rfl rfl)
theorem dX2_costOf_47 : decode cX2_costOf 47 = .ok (.invokestatic 170, 3) := dk_184 0 170 (dk_at dksX2_costOf_2 0 rfl rfl)
theorem dX2_costOf_50 : decode cX2_costOf 50 = .ok (.iadd, 1) := dk_96 (dk_at dksX2_costOf_2 3 rfl rfl)
theorem dX2_costOf_51 : decode cX2_costOf 51 = .ok (.istore_n 3, 1) := dk_62 (dk_at dksX2_costOf_2 4 rfl rfl)
theorem dX2_costOf_52 : decode cX2_costOf 52 = .ok (.iinc 4 1, 3) := dk_132 4 1 (dk_at dksX2_costOf_2 5 rfl rfl)
theorem dX2_costOf_55 : decode cX2_costOf 55 = .ok (.goto (-50), 3) := dk_167 255 206 (dk_at dksX2_costOf_2 8 rfl rfl)
theorem dX2_costOf_58 : decode cX2_costOf 58 = .ok (.aload_n 0, 1) := dk_42 (dk_at dksX2_costOf_2 11 rfl rfl)
theorem dX2_costOf_59 : decode cX2_costOf 59 = .ok (.iload_n 1, 1) := dk_27 (dk_at dksX2_costOf_2 12 rfl rfl)
theorem dX2_costOf_60 : decode cX2_costOf 60 = .ok (.invokevirtual 275, 3) := dk_182 1 19 (dk_at dksX2_costOf_2 13 rfl rfl)
theorem dX2_costOf_63 : decode cX2_costOf 63 = .ok (.iload_n 2, 1) := dk_28 (dk_at dksX2_costOf_2 16 rfl rfl)
theorem dX2_costOf_64 : decode cX2_costOf 64 = .ok (.ifCond .eq 7, 3) := dk_153 0 7 (dk_at dksX2_costOf_2 17 rfl rfl)
theorem dX2_costOf_67 : decode cX2_costOf 67 = .ok (.iload_n 3, 1) := dk_29 (dk_at dksX2_costOf_2 20 rfl rfl)
theorem dX2_costOf_68 : decode cX2_costOf 68 = .ok (.goto 18, 3) := dk_167 0 18 (dk_at dksX2_costOf_2 21 rfl rfl)
theorem dX2_costOf_71 : decode cX2_costOf 71 = .ok (.iload_n 3, 1) := dk_29 (dk_at dksX2_costOf_3 0 rfl rfl)
theorem dX2_costOf_72 : decode cX2_costOf 72 = .ok (.aload_n 0, 1) := dk_42 (dk_at dksX2_costOf_3 1 rfl rfl)
theorem dX2_costOf_73 : decode cX2_costOf 73 = .ok (.getfield 9, 3) := dk_180 0 9 (dk_at dksX2_costOf_3 2 rfl rfl)
theorem dX2_costOf_76 : decode cX2_costOf 76 = .ok (.iconst 4, 1) := dk_7 (dk_at dksX2_costOf_3 5 rfl rfl)
theorem dX2_costOf_77 : decode cX2_costOf 77 = .ok (.iaload, 1) := dk_46 (dk_at dksX2_costOf_3 6 rfl rfl)
theorem dX2_costOf_78 : decode cX2_costOf 78 = .ok (.iconst 1, 1) := dk_4 (dk_at dksX2_costOf_3 7 rfl rfl)
theorem dX2_costOf_79 : decode cX2_costOf 79 = .ok (.iadd, 1) := dk_96 (dk_at dksX2_costOf_3 8 rfl rfl)
theorem dX2_costOf_80 : decode cX2_costOf 80 = .ok (.aload_n 0, 1) := dk_42 (dk_at dksX2_costOf_3 9 rfl rfl)
theorem dX2_costOf_81 : decode cX2_costOf 81 = .ok (.getfield 269, 3) := dk_180 1 13 (dk_at dksX2_costOf_3 10 rfl rfl)
theorem dX2_costOf_84 : decode cX2_costOf 84 = .ok (.imul, 1) := dk_104 (dk_at dksX2_costOf_3 13 rfl rfl)
theorem dX2_costOf_85 : decode cX2_costOf 85 = .ok (.iadd, 1) := dk_96 (dk_at dksX2_costOf_3 14 rfl rfl)
theorem dX2_costOf_86 : decode cX2_costOf 86 = .ok (.ireturn, 1) := dk_172 (dk_at dksX2_costOf_3 15 rfl rfl)
abbrev cX2_cost : ByteArray := prog_10_method_76_code
def yX2_cost : MethodName := ⟨RX2, "cost", "(IZ)I"⟩
def dkwX2_cost_0 : List UInt8 := [42, 27, 182, 0, 216, 153, 0, 12, 42, 27, 28, 182, 1, 25, 167, 0, 4, 3, 172]
abbrev dktX2_cost_0 : List UInt8 := dkwX2_cost_0 ++ []
theorem dksX2_cost_0 : cX2_cost.data.toList.drop 0 = dktX2_cost_0 := by decide +kernel
theorem dX2_cost_0 : decode cX2_cost 0 = .ok (.aload_n 0, 1) := dk_42 (dk_at dksX2_cost_0 0 rfl rfl)
theorem dX2_cost_1 : decode cX2_cost 1 = .ok (.iload_n 1, 1) := dk_27 (dk_at dksX2_cost_0 1 rfl rfl)
theorem dX2_cost_2 : decode cX2_cost 2 = .ok (.invokevirtual 216, 3) := dk_182 0 216 (dk_at dksX2_cost_0 2 rfl rfl)
theorem dX2_cost_5 : decode cX2_cost 5 = .ok (.ifCond .eq 12, 3) := dk_153 0 12 (dk_at dksX2_cost_0 5 rfl rfl)
theorem dX2_cost_8 : decode cX2_cost 8 = .ok (.aload_n 0, 1) := dk_42 (dk_at dksX2_cost_0 8 rfl rfl)
theorem dX2_cost_9 : decode cX2_cost 9 = .ok (.iload_n 1, 1) := dk_27 (dk_at dksX2_cost_0 9 rfl rfl)
theorem dX2_cost_10 : decode cX2_cost 10 = .ok (.iload_n 2, 1) := dk_28 (dk_at dksX2_cost_0 10 rfl rfl)
theorem dX2_cost_11 : decode cX2_cost 11 = .ok (.invokevirtual 281, 3) := dk_182 1 25 (dk_at dksX2_cost_0 11 rfl rfl)
theorem dX2_cost_14 : decode cX2_cost 14 = .ok (.goto 4, 3) := dk_167 0 4 (dk_at dksX2_cost_0 14 rfl rfl)
theorem dX2_cost_17 : decode cX2_cost 17 = .ok (.iconst 0, 1) := dk_3 (dk_at dksX2_cost_0 17 rfl rfl)
theorem dX2_cost_18 : decode cX2_cost 18 = .ok (.ireturn, 1) := dk_172 (dk_at dksX2_cost_0 18 rfl rfl)
abbrev cX2_sumOf : ByteArray := prog_10_method_77_code
def yX2_sumOf : MethodName := ⟨RX2, "sumOf", "(IZI)D"⟩
def dkwX2_sumOf_3 : List UInt8 := [135, 111, 99, 57, 4, 132, 6, 1, 167, 255, 182, 24, 4, 175]
abbrev dktX2_sumOf_3 : List UInt8 := dkwX2_sumOf_3 ++ []
def dkwX2_sumOf_2 : List UInt8 := [167, 0, 29, 24, 4, 42, 21, 6, 4, 182, 0, 163, 135, 42, 21, 6, 3, 182, 0, 163, 27, 184, 0, 187]
abbrev dktX2_sumOf_2 : List UInt8 := dkwX2_sumOf_2 ++ dktX2_sumOf_3
def dkwX2_sumOf_1 : List UInt8 := [21, 6, 3, 182, 0, 163, 27, 159, 0, 46, 28, 154, 0, 16, 42, 21, 6, 27, 182, 1, 7, 154, 0, 6]
abbrev dktX2_sumOf_1 : List UInt8 := dkwX2_sumOf_1 ++ dktX2_sumOf_2
def dkwX2_sumOf_0 : List UInt8 := [14, 57, 4, 3, 54, 6, 21, 6, 42, 180, 0, 9, 3, 46, 162, 0, 69, 21, 6, 29, 159, 0, 57, 42]
abbrev dktX2_sumOf_0 : List UInt8 := dkwX2_sumOf_0 ++ dktX2_sumOf_1
theorem dksX2_sumOf_0 : cX2_sumOf.data.toList.drop 0 = dktX2_sumOf_0 := by decide +kernel
theorem dksX2_sumOf_1 : cX2_sumOf.data.toList.drop 24 = dktX2_sumOf_1 := dk_seg dksX2_sumOf_0 24 rfl rfl
theorem dksX2_sumOf_2 : cX2_sumOf.data.toList.drop 48 = dktX2_sumOf_2 := dk_seg dksX2_sumOf_1 24 rfl rfl
theorem dksX2_sumOf_3 : cX2_sumOf.data.toList.drop 72 = dktX2_sumOf_3 := dk_seg dksX2_sumOf_2 24 rfl rfl
theorem dX2_sumOf_0 : decode cX2_sumOf 0 = .ok (.dconst 0, 1) := dk_14 (dk_at dksX2_sumOf_0 0 rfl rfl)
theorem dX2_sumOf_1 : decode cX2_sumOf 1 = .ok (.dstore 4, 2) := dk_57 4 (dk_at dksX2_sumOf_0 1 rfl rfl)
theorem dX2_sumOf_3 : decode cX2_sumOf 3 = .ok (.iconst 0, 1) := dk_3 (dk_at dksX2_sumOf_0 3 rfl rfl)
theorem dX2_sumOf_4 : decode cX2_sumOf 4 = .ok (.istore 6, 2) := dk_54 6 (dk_at dksX2_sumOf_0 4 rfl rfl)
theorem dX2_sumOf_6 : decode cX2_sumOf 6 = .ok (.iload 6, 2) := dk_21 6 (dk_at dksX2_sumOf_0 6 rfl rfl)
theorem dX2_sumOf_8 : decode cX2_sumOf 8 = .ok (.aload_n 0, 1) := dk_42 (dk_at dksX2_sumOf_0 8 rfl rfl)
theorem dX2_sumOf_9 : decode cX2_sumOf 9 = .ok (.getfield 9, 3) := dk_180 0 9 (dk_at dksX2_sumOf_0 9 rfl rfl)
theorem dX2_sumOf_12 : decode cX2_sumOf 12 = .ok (.iconst 0, 1) := dk_3 (dk_at dksX2_sumOf_0 12 rfl rfl)
theorem dX2_sumOf_13 : decode cX2_sumOf 13 = .ok (.iaload, 1) := dk_46 (dk_at dksX2_sumOf_0 13 rfl rfl)
theorem dX2_sumOf_14 : decode cX2_sumOf 14 = .ok (.if_icmp .ge 69, 3) := dk_162 0 69 (dk_at dksX2_sumOf_0 14 rfl rfl)
theorem dX2_sumOf_17 : decode cX2_sumOf 17 = .ok (.iload 6, 2) := dk_21 6 (dk_at dksX2_sumOf_0 17 rfl rfl)
theorem dX2_sumOf_19 : decode cX2_sumOf 19 = .ok (.iload_n 3, 1) := dk_29 (dk_at dksX2_sumOf_0 19 rfl rfl)
theorem dX2_sumOf_20 : decode cX2_sumOf 20 = .ok (.if_icmp .eq 57, 3) := dk_159 0 57 (dk_at dksX2_sumOf_0 20 rfl rfl)
theorem dX2_sumOf_23 : decode cX2_sumOf 23 = .ok (.aload_n 0, 1) := dk_42 (dk_at dksX2_sumOf_0 23 rfl rfl)
theorem dX2_sumOf_24 : decode cX2_sumOf 24 = .ok (.iload 6, 2) := dk_21 6 (dk_at dksX2_sumOf_1 0 rfl rfl)
theorem dX2_sumOf_26 : decode cX2_sumOf 26 = .ok (.iconst 0, 1) := dk_3 (dk_at dksX2_sumOf_1 2 rfl rfl)
theorem dX2_sumOf_27 : decode cX2_sumOf 27 = .ok (.invokevirtual 163, 3) := dk_182 0 163 (dk_at dksX2_sumOf_1 3 rfl rfl)
theorem dX2_sumOf_30 : decode cX2_sumOf 30 = .ok (.iload_n 1, 1) := dk_27 (dk_at dksX2_sumOf_1 6 rfl rfl)
theorem dX2_sumOf_31 : decode cX2_sumOf 31 = .ok (.if_icmp .eq 46, 3) := dk_159 0 46 (dk_at dksX2_sumOf_1 7 rfl rfl)
theorem dX2_sumOf_34 : decode cX2_sumOf 34 = .ok (.iload_n 2, 1) := dk_28 (dk_at dksX2_sumOf_1 10 rfl rfl)
theorem dX2_sumOf_35 : decode cX2_sumOf 35 = .ok (.ifCond .ne 16, 3) := dk_154 0 16 (dk_at dksX2_sumOf_1 11 rfl rfl)
theorem dX2_sumOf_38 : decode cX2_sumOf 38 = .ok (.aload_n 0, 1) := dk_42 (dk_at dksX2_sumOf_1 14 rfl rfl)
theorem dX2_sumOf_39 : decode cX2_sumOf 39 = .ok (.iload 6, 2) := dk_21 6 (dk_at dksX2_sumOf_1 15 rfl rfl)
theorem dX2_sumOf_41 : decode cX2_sumOf 41 = .ok (.iload_n 1, 1) := dk_27 (dk_at dksX2_sumOf_1 17 rfl rfl)
theorem dX2_sumOf_42 : decode cX2_sumOf 42 = .ok (.invokevirtual 263, 3) := dk_182 1 7 (dk_at dksX2_sumOf_1 18 rfl rfl)
theorem dX2_sumOf_45 : decode cX2_sumOf 45 = .ok (.ifCond .ne 6, 3) := dk_154 0 6 (dk_at dksX2_sumOf_1 21 rfl rfl)
theorem dX2_sumOf_48 : decode cX2_sumOf 48 = .ok (.goto 29, 3) := dk_167 0 29 (dk_at dksX2_sumOf_2 0 rfl rfl)
theorem dX2_sumOf_51 : decode cX2_sumOf 51 = .ok (.dload 4, 2) := dk_24 4 (dk_at dksX2_sumOf_2 3 rfl rfl)
theorem dX2_sumOf_53 : decode cX2_sumOf 53 = .ok (.aload_n 0, 1) := dk_42 (dk_at dksX2_sumOf_2 5 rfl rfl)
theorem dX2_sumOf_54 : decode cX2_sumOf 54 = .ok (.iload 6, 2) := dk_21 6 (dk_at dksX2_sumOf_2 6 rfl rfl)
theorem dX2_sumOf_56 : decode cX2_sumOf 56 = .ok (.iconst 1, 1) := dk_4 (dk_at dksX2_sumOf_2 8 rfl rfl)
theorem dX2_sumOf_57 : decode cX2_sumOf 57 = .ok (.invokevirtual 163, 3) := dk_182 0 163 (dk_at dksX2_sumOf_2 9 rfl rfl)
theorem dX2_sumOf_60 : decode cX2_sumOf 60 = .ok (.i2d, 1) := dk_135 (dk_at dksX2_sumOf_2 12 rfl rfl)
theorem dX2_sumOf_61 : decode cX2_sumOf 61 = .ok (.aload_n 0, 1) := dk_42 (dk_at dksX2_sumOf_2 13 rfl rfl)
theorem dX2_sumOf_62 : decode cX2_sumOf 62 = .ok (.iload 6, 2) := dk_21 6 (dk_at dksX2_sumOf_2 14 rfl rfl)
theorem dX2_sumOf_64 : decode cX2_sumOf 64 = .ok (.iconst 0, 1) := dk_3 (dk_at dksX2_sumOf_2 16 rfl rfl)
theorem dX2_sumOf_65 : decode cX2_sumOf 65 = .ok (.invokevirtual 163, 3) := dk_182 0 163 (dk_at dksX2_sumOf_2 17 rfl rfl)
theorem dX2_sumOf_68 : decode cX2_sumOf 68 = .ok (.iload_n 1, 1) := dk_27 (dk_at dksX2_sumOf_2 20 rfl rfl)
theorem dX2_sumOf_69 : decode cX2_sumOf 69 = .ok (.invokestatic 187, 3) := dk_184 0 187 (dk_at dksX2_sumOf_2 21 rfl rfl)
theorem dX2_sumOf_72 : decode cX2_sumOf 72 = .ok (.i2d, 1) := dk_135 (dk_at dksX2_sumOf_3 0 rfl rfl)
theorem dX2_sumOf_73 : decode cX2_sumOf 73 = .ok (.ddiv, 1) := dk_111 (dk_at dksX2_sumOf_3 1 rfl rfl)
theorem dX2_sumOf_74 : decode cX2_sumOf 74 = .ok (.dadd, 1) := dk_99 (dk_at dksX2_sumOf_3 2 rfl rfl)
theorem dX2_sumOf_75 : decode cX2_sumOf 75 = .ok (.dstore 4, 2) := dk_57 4 (dk_at dksX2_sumOf_3 3 rfl rfl)
theorem dX2_sumOf_77 : decode cX2_sumOf 77 = .ok (.iinc 6 1, 3) := dk_132 6 1 (dk_at dksX2_sumOf_3 5 rfl rfl)
theorem dX2_sumOf_80 : decode cX2_sumOf 80 = .ok (.goto (-74), 3) := dk_167 255 182 (dk_at dksX2_sumOf_3 8 rfl rfl)
theorem dX2_sumOf_83 : decode cX2_sumOf 83 = .ok (.dload 4, 2) := dk_24 4 (dk_at dksX2_sumOf_3 11 rfl rfl)
theorem dX2_sumOf_85 : decode cX2_sumOf 85 = .ok (.dreturn, 1) := dk_175 (dk_at dksX2_sumOf_3 13 rfl rfl)
abbrev cX2_plain : ByteArray := prog_10_method_78_code
def yX2_plain : MethodName := ⟨RX2, "plain", "(I)D"⟩
def dkwX2_plain_0 : List UInt8 := [42, 27, 182, 0, 216, 153, 0, 13, 42, 27, 4, 2, 182, 1, 29, 167, 0, 4, 14, 175]
abbrev dktX2_plain_0 : List UInt8 := dkwX2_plain_0 ++ []
theorem dksX2_plain_0 : cX2_plain.data.toList.drop 0 = dktX2_plain_0 := by decide +kernel
theorem dX2_plain_0 : decode cX2_plain 0 = .ok (.aload_n 0, 1) := dk_42 (dk_at dksX2_plain_0 0 rfl rfl)
theorem dX2_plain_1 : decode cX2_plain 1 = .ok (.iload_n 1, 1) := dk_27 (dk_at dksX2_plain_0 1 rfl rfl)
theorem dX2_plain_2 : decode cX2_plain 2 = .ok (.invokevirtual 216, 3) := dk_182 0 216 (dk_at dksX2_plain_0 2 rfl rfl)
theorem dX2_plain_5 : decode cX2_plain 5 = .ok (.ifCond .eq 13, 3) := dk_153 0 13 (dk_at dksX2_plain_0 5 rfl rfl)
theorem dX2_plain_8 : decode cX2_plain 8 = .ok (.aload_n 0, 1) := dk_42 (dk_at dksX2_plain_0 8 rfl rfl)
theorem dX2_plain_9 : decode cX2_plain 9 = .ok (.iload_n 1, 1) := dk_27 (dk_at dksX2_plain_0 9 rfl rfl)
theorem dX2_plain_10 : decode cX2_plain 10 = .ok (.iconst 1, 1) := dk_4 (dk_at dksX2_plain_0 10 rfl rfl)
theorem dX2_plain_11 : decode cX2_plain 11 = .ok (.iconst (-1), 1) := dk_2 (dk_at dksX2_plain_0 11 rfl rfl)
theorem dX2_plain_12 : decode cX2_plain 12 = .ok (.invokevirtual 285, 3) := dk_182 1 29 (dk_at dksX2_plain_0 12 rfl rfl)
theorem dX2_plain_15 : decode cX2_plain 15 = .ok (.goto 4, 3) := dk_167 0 4 (dk_at dksX2_plain_0 15 rfl rfl)
theorem dX2_plain_18 : decode cX2_plain 18 = .ok (.dconst 0, 1) := dk_14 (dk_at dksX2_plain_0 18 rfl rfl)
theorem dX2_plain_19 : decode cX2_plain 19 = .ok (.dreturn, 1) := dk_175 (dk_at dksX2_plain_0 19 rfl rfl)
abbrev cX2_nearSum : ByteArray := prog_10_method_79_code
def yX2_nearSum : MethodName := ⟨RX2, "nearSum", "(I)D"⟩
def dkwX2_nearSum_0 : List UInt8 := [42, 27, 182, 0, 216, 153, 0, 13, 42, 27, 3, 2, 182, 1, 29, 167, 0, 4, 14, 175]
abbrev dktX2_nearSum_0 : List UInt8 := dkwX2_nearSum_0 ++ []
theorem dksX2_nearSum_0 : cX2_nearSum.data.toList.drop 0 = dktX2_nearSum_0 := by decide +kernel
theorem dX2_nearSum_0 : decode cX2_nearSum 0 = .ok (.aload_n 0, 1) := dk_42 (dk_at dksX2_nearSum_0 0 rfl rfl)
theorem dX2_nearSum_1 : decode cX2_nearSum 1 = .ok (.iload_n 1, 1) := dk_27 (dk_at dksX2_nearSum_0 1 rfl rfl)
theorem dX2_nearSum_2 : decode cX2_nearSum 2 = .ok (.invokevirtual 216, 3) := dk_182 0 216 (dk_at dksX2_nearSum_0 2 rfl rfl)
theorem dX2_nearSum_5 : decode cX2_nearSum 5 = .ok (.ifCond .eq 13, 3) := dk_153 0 13 (dk_at dksX2_nearSum_0 5 rfl rfl)
theorem dX2_nearSum_8 : decode cX2_nearSum 8 = .ok (.aload_n 0, 1) := dk_42 (dk_at dksX2_nearSum_0 8 rfl rfl)
theorem dX2_nearSum_9 : decode cX2_nearSum 9 = .ok (.iload_n 1, 1) := dk_27 (dk_at dksX2_nearSum_0 9 rfl rfl)
theorem dX2_nearSum_10 : decode cX2_nearSum 10 = .ok (.iconst 0, 1) := dk_3 (dk_at dksX2_nearSum_0 10 rfl rfl)
theorem dX2_nearSum_11 : decode cX2_nearSum 11 = .ok (.iconst (-1), 1) := dk_2 (dk_at dksX2_nearSum_0 11 rfl rfl)
theorem dX2_nearSum_12 : decode cX2_nearSum 12 = .ok (.invokevirtual 285, 3) := dk_182 1 29 (dk_at dksX2_nearSum_0 12 rfl rfl)
theorem dX2_nearSum_15 : decode cX2_nearSum 15 = .ok (.goto 4, 3) := dk_167 0 4 (dk_at dksX2_nearSum_0 15 rfl rfl)
theorem dX2_nearSum_18 : decode cX2_nearSum 18 = .ok (.dconst 0, 1) := dk_14 (dk_at dksX2_nearSum_0 18 rfl rfl)
theorem dX2_nearSum_19 : decode cX2_nearSum 19 = .ok (.dreturn, 1) := dk_175 (dk_at dksX2_nearSum_0 19 rfl rfl)
abbrev cX2_valueOf : ByteArray := prog_10_method_80_code
def yX2_valueOf : MethodName := ⟨RX2, "valueOf", "(III)D"⟩
def dkwX2_valueOf_3 : List UInt8 := [103, 167, 0, 5, 24, 5, 175]
abbrev dktX2_valueOf_3 : List UInt8 := dkwX2_valueOf_3 ++ []
def dkwX2_valueOf_2 : List UInt8 := [57, 5, 24, 7, 21, 4, 135, 107, 57, 7, 132, 9, 1, 167, 255, 217, 21, 4, 156, 0, 10, 14, 24, 5]
abbrev dktX2_valueOf_2 : List UInt8 := dkwX2_valueOf_2 ++ dktX2_valueOf_3
def dkwX2_valueOf_1 : List UInt8 := [180, 0, 9, 7, 46, 163, 0, 34, 24, 5, 42, 27, 28, 21, 9, 182, 0, 243, 138, 24, 7, 111, 99]
abbrev dktX2_valueOf_1 : List UInt8 := dkwX2_valueOf_1 ++ dktX2_valueOf_2
def dkwX2_valueOf_0 : List UInt8 := [29, 27, 28, 184, 0, 226, 100, 54, 4, 14, 57, 5, 21, 4, 135, 57, 7, 3, 54, 9, 21, 9, 42]
abbrev dktX2_valueOf_0 : List UInt8 := dkwX2_valueOf_0 ++ dktX2_valueOf_1
theorem dksX2_valueOf_0 : cX2_valueOf.data.toList.drop 0 = dktX2_valueOf_0 := by decide +kernel
theorem dksX2_valueOf_1 : cX2_valueOf.data.toList.drop 23 = dktX2_valueOf_1 := dk_seg dksX2_valueOf_0 23 rfl rfl
theorem dksX2_valueOf_2 : cX2_valueOf.data.toList.drop 46 = dktX2_valueOf_2 := dk_seg dksX2_valueOf_1 23 rfl rfl
theorem dksX2_valueOf_3 : cX2_valueOf.data.toList.drop 70 = dktX2_valueOf_3 := dk_seg dksX2_valueOf_2 24 rfl rfl
theorem dX2_valueOf_0 : decode cX2_valueOf 0 = .ok (.iload_n 3, 1) := dk_29 (dk_at dksX2_valueOf_0 0 rfl rfl)
theorem dX2_valueOf_1 : decode cX2_valueOf 1 = .ok (.iload_n 1, 1) := dk_27 (dk_at dksX2_valueOf_0 1 rfl rfl)
theorem dX2_valueOf_2 : decode cX2_valueOf 2 = .ok (.iload_n 2, 1) := dk_28 (dk_at dksX2_valueOf_0 2 rfl rfl)
theorem dX2_valueOf_3 : decode cX2_valueOf 3 = .ok (.invokestatic 226, 3) := dk_184 0 226 (dk_at dksX2_valueOf_0 3 rfl rfl)
theorem dX2_valueOf_6 : decode cX2_valueOf 6 = .ok (.isub, 1) := dk_100 (dk_at dksX2_valueOf_0 6 rfl rfl)
theorem dX2_valueOf_7 : decode cX2_valueOf 7 = .ok (.istore 4, 2) := dk_54 4 (dk_at dksX2_valueOf_0 7 rfl rfl)
theorem dX2_valueOf_9 : decode cX2_valueOf 9 = .ok (.dconst 0, 1) := dk_14 (dk_at dksX2_valueOf_0 9 rfl rfl)
theorem dX2_valueOf_10 : decode cX2_valueOf 10 = .ok (.dstore 5, 2) := dk_57 5 (dk_at dksX2_valueOf_0 10 rfl rfl)
theorem dX2_valueOf_12 : decode cX2_valueOf 12 = .ok (.iload 4, 2) := dk_21 4 (dk_at dksX2_valueOf_0 12 rfl rfl)
theorem dX2_valueOf_14 : decode cX2_valueOf 14 = .ok (.i2d, 1) := dk_135 (dk_at dksX2_valueOf_0 14 rfl rfl)
theorem dX2_valueOf_15 : decode cX2_valueOf 15 = .ok (.dstore 7, 2) := dk_57 7 (dk_at dksX2_valueOf_0 15 rfl rfl)
theorem dX2_valueOf_17 : decode cX2_valueOf 17 = .ok (.iconst 0, 1) := dk_3 (dk_at dksX2_valueOf_0 17 rfl rfl)
theorem dX2_valueOf_18 : decode cX2_valueOf 18 = .ok (.istore 9, 2) := dk_54 9 (dk_at dksX2_valueOf_0 18 rfl rfl)
theorem dX2_valueOf_20 : decode cX2_valueOf 20 = .ok (.iload 9, 2) := dk_21 9 (dk_at dksX2_valueOf_0 20 rfl rfl)
theorem dX2_valueOf_22 : decode cX2_valueOf 22 = .ok (.aload_n 0, 1) := dk_42 (dk_at dksX2_valueOf_0 22 rfl rfl)
theorem dX2_valueOf_23 : decode cX2_valueOf 23 = .ok (.getfield 9, 3) := dk_180 0 9 (dk_at dksX2_valueOf_1 0 rfl rfl)
theorem dX2_valueOf_26 : decode cX2_valueOf 26 = .ok (.iconst 4, 1) := dk_7 (dk_at dksX2_valueOf_1 3 rfl rfl)
theorem dX2_valueOf_27 : decode cX2_valueOf 27 = .ok (.iaload, 1) := dk_46 (dk_at dksX2_valueOf_1 4 rfl rfl)
theorem dX2_valueOf_28 : decode cX2_valueOf 28 = .ok (.if_icmp .gt 34, 3) := dk_163 0 34 (dk_at dksX2_valueOf_1 5 rfl rfl)
theorem dX2_valueOf_31 : decode cX2_valueOf 31 = .ok (.dload 5, 2) := dk_24 5 (dk_at dksX2_valueOf_1 8 rfl rfl)
theorem dX2_valueOf_33 : decode cX2_valueOf 33 = .ok (.aload_n 0, 1) := dk_42 (dk_at dksX2_valueOf_1 10 rfl rfl)
theorem dX2_valueOf_34 : decode cX2_valueOf 34 = .ok (.iload_n 1, 1) := dk_27 (dk_at dksX2_valueOf_1 11 rfl rfl)
theorem dX2_valueOf_35 : decode cX2_valueOf 35 = .ok (.iload_n 2, 1) := dk_28 (dk_at dksX2_valueOf_1 12 rfl rfl)
theorem dX2_valueOf_36 : decode cX2_valueOf 36 = .ok (.iload 9, 2) := dk_21 9 (dk_at dksX2_valueOf_1 13 rfl rfl)
theorem dX2_valueOf_38 : decode cX2_valueOf 38 = .ok (.invokevirtual 243, 3) := dk_182 0 243 (dk_at dksX2_valueOf_1 15 rfl rfl)
theorem dX2_valueOf_41 : decode cX2_valueOf 41 = .ok (.l2d, 1) := dk_138 (dk_at dksX2_valueOf_1 18 rfl rfl)
theorem dX2_valueOf_42 : decode cX2_valueOf 42 = .ok (.dload 7, 2) := dk_24 7 (dk_at dksX2_valueOf_1 19 rfl rfl)
theorem dX2_valueOf_44 : decode cX2_valueOf 44 = .ok (.ddiv, 1) := dk_111 (dk_at dksX2_valueOf_1 21 rfl rfl)
theorem dX2_valueOf_45 : decode cX2_valueOf 45 = .ok (.dadd, 1) := dk_99 (dk_at dksX2_valueOf_1 22 rfl rfl)
theorem dX2_valueOf_46 : decode cX2_valueOf 46 = .ok (.dstore 5, 2) := dk_57 5 (dk_at dksX2_valueOf_2 0 rfl rfl)
theorem dX2_valueOf_48 : decode cX2_valueOf 48 = .ok (.dload 7, 2) := dk_24 7 (dk_at dksX2_valueOf_2 2 rfl rfl)
theorem dX2_valueOf_50 : decode cX2_valueOf 50 = .ok (.iload 4, 2) := dk_21 4 (dk_at dksX2_valueOf_2 4 rfl rfl)
theorem dX2_valueOf_52 : decode cX2_valueOf 52 = .ok (.i2d, 1) := dk_135 (dk_at dksX2_valueOf_2 6 rfl rfl)
theorem dX2_valueOf_53 : decode cX2_valueOf 53 = .ok (.dmul, 1) := dk_107 (dk_at dksX2_valueOf_2 7 rfl rfl)
theorem dX2_valueOf_54 : decode cX2_valueOf 54 = .ok (.dstore 7, 2) := dk_57 7 (dk_at dksX2_valueOf_2 8 rfl rfl)
theorem dX2_valueOf_56 : decode cX2_valueOf 56 = .ok (.iinc 9 1, 3) := dk_132 9 1 (dk_at dksX2_valueOf_2 10 rfl rfl)
theorem dX2_valueOf_59 : decode cX2_valueOf 59 = .ok (.goto (-39), 3) := dk_167 255 217 (dk_at dksX2_valueOf_2 13 rfl rfl)
theorem dX2_valueOf_62 : decode cX2_valueOf 62 = .ok (.iload 4, 2) := dk_21 4 (dk_at dksX2_valueOf_2 16 rfl rfl)
theorem dX2_valueOf_64 : decode cX2_valueOf 64 = .ok (.ifCond .ge 10, 3) := dk_156 0 10 (dk_at dksX2_valueOf_2 18 rfl rfl)
theorem dX2_valueOf_67 : decode cX2_valueOf 67 = .ok (.dconst 0, 1) := dk_14 (dk_at dksX2_valueOf_2 21 rfl rfl)
theorem dX2_valueOf_68 : decode cX2_valueOf 68 = .ok (.dload 5, 2) := dk_24 5 (dk_at dksX2_valueOf_2 22 rfl rfl)
theorem dX2_valueOf_70 : decode cX2_valueOf 70 = .ok (.dsub, 1) := dk_103 (dk_at dksX2_valueOf_3 0 rfl rfl)
theorem dX2_valueOf_71 : decode cX2_valueOf 71 = .ok (.goto 5, 3) := dk_167 0 5 (dk_at dksX2_valueOf_3 1 rfl rfl)
theorem dX2_valueOf_74 : decode cX2_valueOf 74 = .ok (.dload 5, 2) := dk_24 5 (dk_at dksX2_valueOf_3 4 rfl rfl)
theorem dX2_valueOf_76 : decode cX2_valueOf 76 = .ok (.dreturn, 1) := dk_175 (dk_at dksX2_valueOf_3 6 rfl rfl)
abbrev cX2_farOf : ByteArray := prog_10_method_81_code
def yX2_farOf : MethodName := ⟨RX2, "farOf", "(I)D"⟩
def dkwX2_farOf_2 : List UInt8 := [167, 255, 222, 40, 175]
abbrev dktX2_farOf_2 : List UInt8 := dkwX2_farOf_2 ++ []
def dkwX2_farOf_1 : List UInt8 := [180, 0, 38, 21, 4, 46, 42, 180, 0, 41, 21, 4, 46, 27, 182, 1, 33, 99, 73, 132, 4, 1]
abbrev dktX2_farOf_1 : List UInt8 := dkwX2_farOf_1 ++ dktX2_farOf_2
def dkwX2_farOf_0 : List UInt8 := [42, 27, 182, 1, 19, 14, 73, 3, 54, 4, 21, 4, 42, 180, 1, 13, 162, 0, 31, 40, 42, 42]
abbrev dktX2_farOf_0 : List UInt8 := dkwX2_farOf_0 ++ dktX2_farOf_1
theorem dksX2_farOf_0 : cX2_farOf.data.toList.drop 0 = dktX2_farOf_0 := by decide +kernel
theorem dksX2_farOf_1 : cX2_farOf.data.toList.drop 22 = dktX2_farOf_1 := dk_seg dksX2_farOf_0 22 rfl rfl
theorem dksX2_farOf_2 : cX2_farOf.data.toList.drop 44 = dktX2_farOf_2 := dk_seg dksX2_farOf_1 22 rfl rfl
theorem dX2_farOf_0 : decode cX2_farOf 0 = .ok (.aload_n 0, 1) := dk_42 (dk_at dksX2_farOf_0 0 rfl rfl)
theorem dX2_farOf_1 : decode cX2_farOf 1 = .ok (.iload_n 1, 1) := dk_27 (dk_at dksX2_farOf_0 1 rfl rfl)
theorem dX2_farOf_2 : decode cX2_farOf 2 = .ok (.invokevirtual 275, 3) := dk_182 1 19 (dk_at dksX2_farOf_0 2 rfl rfl)
theorem dX2_farOf_5 : decode cX2_farOf 5 = .ok (.dconst 0, 1) := dk_14 (dk_at dksX2_farOf_0 5 rfl rfl)
theorem dX2_farOf_6 : decode cX2_farOf 6 = .ok (.dstore_n 2, 1) := dk_73 (dk_at dksX2_farOf_0 6 rfl rfl)
theorem dX2_farOf_7 : decode cX2_farOf 7 = .ok (.iconst 0, 1) := dk_3 (dk_at dksX2_farOf_0 7 rfl rfl)
theorem dX2_farOf_8 : decode cX2_farOf 8 = .ok (.istore 4, 2) := dk_54 4 (dk_at dksX2_farOf_0 8 rfl rfl)
theorem dX2_farOf_10 : decode cX2_farOf 10 = .ok (.iload 4, 2) := dk_21 4 (dk_at dksX2_farOf_0 10 rfl rfl)
theorem dX2_farOf_12 : decode cX2_farOf 12 = .ok (.aload_n 0, 1) := dk_42 (dk_at dksX2_farOf_0 12 rfl rfl)
theorem dX2_farOf_13 : decode cX2_farOf 13 = .ok (.getfield 269, 3) := dk_180 1 13 (dk_at dksX2_farOf_0 13 rfl rfl)
theorem dX2_farOf_16 : decode cX2_farOf 16 = .ok (.if_icmp .ge 31, 3) := dk_162 0 31 (dk_at dksX2_farOf_0 16 rfl rfl)
theorem dX2_farOf_19 : decode cX2_farOf 19 = .ok (.dload_n 2, 1) := dk_40 (dk_at dksX2_farOf_0 19 rfl rfl)
theorem dX2_farOf_20 : decode cX2_farOf 20 = .ok (.aload_n 0, 1) := dk_42 (dk_at dksX2_farOf_0 20 rfl rfl)
theorem dX2_farOf_21 : decode cX2_farOf 21 = .ok (.aload_n 0, 1) := dk_42 (dk_at dksX2_farOf_0 21 rfl rfl)
theorem dX2_farOf_22 : decode cX2_farOf 22 = .ok (.getfield 38, 3) := dk_180 0 38 (dk_at dksX2_farOf_1 0 rfl rfl)
theorem dX2_farOf_25 : decode cX2_farOf 25 = .ok (.iload 4, 2) := dk_21 4 (dk_at dksX2_farOf_1 3 rfl rfl)
theorem dX2_farOf_27 : decode cX2_farOf 27 = .ok (.iaload, 1) := dk_46 (dk_at dksX2_farOf_1 5 rfl rfl)
theorem dX2_farOf_28 : decode cX2_farOf 28 = .ok (.aload_n 0, 1) := dk_42 (dk_at dksX2_farOf_1 6 rfl rfl)
theorem dX2_farOf_29 : decode cX2_farOf 29 = .ok (.getfield 41, 3) := dk_180 0 41 (dk_at dksX2_farOf_1 7 rfl rfl)
theorem dX2_farOf_32 : decode cX2_farOf 32 = .ok (.iload 4, 2) := dk_21 4 (dk_at dksX2_farOf_1 10 rfl rfl)
theorem dX2_farOf_34 : decode cX2_farOf 34 = .ok (.iaload, 1) := dk_46 (dk_at dksX2_farOf_1 12 rfl rfl)
theorem dX2_farOf_35 : decode cX2_farOf 35 = .ok (.iload_n 1, 1) := dk_27 (dk_at dksX2_farOf_1 13 rfl rfl)
theorem dX2_farOf_36 : decode cX2_farOf 36 = .ok (.invokevirtual 289, 3) := dk_182 1 33 (dk_at dksX2_farOf_1 14 rfl rfl)
theorem dX2_farOf_39 : decode cX2_farOf 39 = .ok (.dadd, 1) := dk_99 (dk_at dksX2_farOf_1 17 rfl rfl)
theorem dX2_farOf_40 : decode cX2_farOf 40 = .ok (.dstore_n 2, 1) := dk_73 (dk_at dksX2_farOf_1 18 rfl rfl)
theorem dX2_farOf_41 : decode cX2_farOf 41 = .ok (.iinc 4 1, 3) := dk_132 4 1 (dk_at dksX2_farOf_1 19 rfl rfl)
theorem dX2_farOf_44 : decode cX2_farOf 44 = .ok (.goto (-34), 3) := dk_167 255 222 (dk_at dksX2_farOf_2 0 rfl rfl)
theorem dX2_farOf_47 : decode cX2_farOf 47 = .ok (.dload_n 2, 1) := dk_40 (dk_at dksX2_farOf_2 3 rfl rfl)
theorem dX2_farOf_48 : decode cX2_farOf 48 = .ok (.dreturn, 1) := dk_175 (dk_at dksX2_farOf_2 4 rfl rfl)
abbrev cX2_farSum : ByteArray := prog_10_method_82_code
def yX2_farSum : MethodName := ⟨RX2, "farSum", "(I)D"⟩
def dkwX2_farSum_0 : List UInt8 := [42, 27, 182, 0, 216, 153, 0, 11, 42, 27, 182, 1, 37, 167, 0, 4, 14, 175]
abbrev dktX2_farSum_0 : List UInt8 := dkwX2_farSum_0 ++ []
theorem dksX2_farSum_0 : cX2_farSum.data.toList.drop 0 = dktX2_farSum_0 := by decide +kernel
theorem dX2_farSum_0 : decode cX2_farSum 0 = .ok (.aload_n 0, 1) := dk_42 (dk_at dksX2_farSum_0 0 rfl rfl)
theorem dX2_farSum_1 : decode cX2_farSum 1 = .ok (.iload_n 1, 1) := dk_27 (dk_at dksX2_farSum_0 1 rfl rfl)
theorem dX2_farSum_2 : decode cX2_farSum 2 = .ok (.invokevirtual 216, 3) := dk_182 0 216 (dk_at dksX2_farSum_0 2 rfl rfl)
theorem dX2_farSum_5 : decode cX2_farSum 5 = .ok (.ifCond .eq 11, 3) := dk_153 0 11 (dk_at dksX2_farSum_0 5 rfl rfl)
theorem dX2_farSum_8 : decode cX2_farSum 8 = .ok (.aload_n 0, 1) := dk_42 (dk_at dksX2_farSum_0 8 rfl rfl)
theorem dX2_farSum_9 : decode cX2_farSum 9 = .ok (.iload_n 1, 1) := dk_27 (dk_at dksX2_farSum_0 9 rfl rfl)
theorem dX2_farSum_10 : decode cX2_farSum 10 = .ok (.invokevirtual 293, 3) := dk_182 1 37 (dk_at dksX2_farSum_0 10 rfl rfl)
theorem dX2_farSum_13 : decode cX2_farSum 13 = .ok (.goto 4, 3) := dk_167 0 4 (dk_at dksX2_farSum_0 13 rfl rfl)
theorem dX2_farSum_16 : decode cX2_farSum 16 = .ok (.dconst 0, 1) := dk_14 (dk_at dksX2_farSum_0 16 rfl rfl)
theorem dX2_farSum_17 : decode cX2_farSum 17 = .ok (.dreturn, 1) := dk_175 (dk_at dksX2_farSum_0 17 rfl rfl)
abbrev cJ34_isNaN : ByteArray := prog_19_method_6_code
def yJ34_isNaN : MethodName := ⟨RJ34, "isNaN", "(D)Z"⟩
def dkwJ34_isNaN_0 : List UInt8 := [38, 38, 151, 153, 0, 7, 4, 167, 0, 4, 3, 172]
abbrev dktJ34_isNaN_0 : List UInt8 := dkwJ34_isNaN_0 ++ []
theorem dksJ34_isNaN_0 : cJ34_isNaN.data.toList.drop 0 = dktJ34_isNaN_0 := by decide +kernel
theorem dJ34_isNaN_0 : decode cJ34_isNaN 0 = .ok (.dload_n 0, 1) := dk_38 (dk_at dksJ34_isNaN_0 0 rfl rfl)
theorem dJ34_isNaN_1 : decode cJ34_isNaN 1 = .ok (.dload_n 0, 1) := dk_38 (dk_at dksJ34_isNaN_0 1 rfl rfl)
theorem dJ34_isNaN_2 : decode cJ34_isNaN 2 = .ok (.dcmp .l, 1) := dk_151 (dk_at dksJ34_isNaN_0 2 rfl rfl)
theorem dJ34_isNaN_3 : decode cJ34_isNaN 3 = .ok (.ifCond .eq 7, 3) := dk_153 0 7 (dk_at dksJ34_isNaN_0 3 rfl rfl)
theorem dJ34_isNaN_6 : decode cJ34_isNaN 6 = .ok (.iconst 1, 1) := dk_4 (dk_at dksJ34_isNaN_0 6 rfl rfl)
theorem dJ34_isNaN_7 : decode cJ34_isNaN 7 = .ok (.goto 4, 3) := dk_167 0 4 (dk_at dksJ34_isNaN_0 7 rfl rfl)
theorem dJ34_isNaN_10 : decode cJ34_isNaN 10 = .ok (.iconst 0, 1) := dk_3 (dk_at dksJ34_isNaN_0 10 rfl rfl)
theorem dJ34_isNaN_11 : decode cJ34_isNaN 11 = .ok (.ireturn, 1) := dk_172 (dk_at dksJ34_isNaN_0 11 rfl rfl)
abbrev cJ34_doubleToLongBits : ByteArray := prog_19_method_23_code
def yJ34_doubleToLongBits : MethodName := ⟨RJ34, "doubleToLongBits", "(D)J"⟩
def dkwJ34_doubleToLongBits_0 : List UInt8 := [38, 184, 0, 122, 154, 0, 8, 38, 184, 0, 134, 173, 20, 0, 137, 173]
abbrev dktJ34_doubleToLongBits_0 : List UInt8 := dkwJ34_doubleToLongBits_0 ++ []
theorem dksJ34_doubleToLongBits_0 : cJ34_doubleToLongBits.data.toList.drop 0 = dktJ34_doubleToLongBits_0 := by decide +kernel
theorem dJ34_doubleToLongBits_0 : decode cJ34_doubleToLongBits 0 = .ok (.dload_n 0, 1) := dk_38 (dk_at dksJ34_doubleToLongBits_0 0 rfl rfl)
theorem dJ34_doubleToLongBits_1 : decode cJ34_doubleToLongBits 1 = .ok (.invokestatic 122, 3) := dk_184 0 122 (dk_at dksJ34_doubleToLongBits_0 1 rfl rfl)
theorem dJ34_doubleToLongBits_4 : decode cJ34_doubleToLongBits 4 = .ok (.ifCond .ne 8, 3) := dk_154 0 8 (dk_at dksJ34_doubleToLongBits_0 4 rfl rfl)
theorem dJ34_doubleToLongBits_7 : decode cJ34_doubleToLongBits 7 = .ok (.dload_n 0, 1) := dk_38 (dk_at dksJ34_doubleToLongBits_0 7 rfl rfl)
theorem dJ34_doubleToLongBits_8 : decode cJ34_doubleToLongBits 8 = .ok (.invokestatic 134, 3) := dk_184 0 134 (dk_at dksJ34_doubleToLongBits_0 8 rfl rfl)
theorem dJ34_doubleToLongBits_11 : decode cJ34_doubleToLongBits 11 = .ok (.lreturn, 1) := dk_173 (dk_at dksJ34_doubleToLongBits_0 11 rfl rfl)
theorem dJ34_doubleToLongBits_12 : decode cJ34_doubleToLongBits 12 = .ok (.ldc2_w 137, 3) := dk_20 0 137 (dk_at dksJ34_doubleToLongBits_0 12 rfl rfl)
theorem dJ34_doubleToLongBits_15 : decode cJ34_doubleToLongBits 15 = .ok (.lreturn, 1) := dk_173 (dk_at dksJ34_doubleToLongBits_0 15 rfl rfl)
abbrev cX2_farBits : ByteArray := prog_10_method_83_code
def yX2_farBits : MethodName := ⟨RX2, "farBits", "(I)J"⟩
def dkwX2_farBits_0 : List UInt8 := [42, 27, 182, 0, 216, 153, 0, 14, 42, 27, 182, 1, 37, 184, 1, 41, 167, 0, 4, 9, 173]
abbrev dktX2_farBits_0 : List UInt8 := dkwX2_farBits_0 ++ []
theorem dksX2_farBits_0 : cX2_farBits.data.toList.drop 0 = dktX2_farBits_0 := by decide +kernel
theorem dX2_farBits_0 : decode cX2_farBits 0 = .ok (.aload_n 0, 1) := dk_42 (dk_at dksX2_farBits_0 0 rfl rfl)
theorem dX2_farBits_1 : decode cX2_farBits 1 = .ok (.iload_n 1, 1) := dk_27 (dk_at dksX2_farBits_0 1 rfl rfl)
theorem dX2_farBits_2 : decode cX2_farBits 2 = .ok (.invokevirtual 216, 3) := dk_182 0 216 (dk_at dksX2_farBits_0 2 rfl rfl)
theorem dX2_farBits_5 : decode cX2_farBits 5 = .ok (.ifCond .eq 14, 3) := dk_153 0 14 (dk_at dksX2_farBits_0 5 rfl rfl)
theorem dX2_farBits_8 : decode cX2_farBits 8 = .ok (.aload_n 0, 1) := dk_42 (dk_at dksX2_farBits_0 8 rfl rfl)
theorem dX2_farBits_9 : decode cX2_farBits 9 = .ok (.iload_n 1, 1) := dk_27 (dk_at dksX2_farBits_0 9 rfl rfl)
theorem dX2_farBits_10 : decode cX2_farBits 10 = .ok (.invokevirtual 293, 3) := dk_182 1 37 (dk_at dksX2_farBits_0 10 rfl rfl)
theorem dX2_farBits_13 : decode cX2_farBits 13 = .ok (.invokestatic 297, 3) := dk_184 1 41 (dk_at dksX2_farBits_0 13 rfl rfl)
theorem dX2_farBits_16 : decode cX2_farBits 16 = .ok (.goto 4, 3) := dk_167 0 4 (dk_at dksX2_farBits_0 16 rfl rfl)
theorem dX2_farBits_19 : decode cX2_farBits 19 = .ok (.lconst 0, 1) := dk_9 (dk_at dksX2_farBits_0 19 rfl rfl)
theorem dX2_farBits_20 : decode cX2_farBits 20 = .ok (.lreturn, 1) := dk_173 (dk_at dksX2_farBits_0 20 rfl rfl)
abbrev cX2_value : ByteArray := prog_10_method_84_code
def yX2_value : MethodName := ⟨RX2, "value", "(III)D"⟩
def dkwX2_value_3 : List UInt8 := [182, 0, 60, 153, 0, 13, 42, 27, 28, 29, 182, 1, 33, 167, 0, 4, 14, 175]
abbrev dktX2_value_3 : List UInt8 := dkwX2_value_3 ++ []
def dkwX2_value_2 : List UInt8 := [184, 0, 174, 161, 0, 7, 4, 167, 0, 4, 3, 54, 5, 42, 42, 180, 0, 156, 21, 4, 21, 5]
abbrev dktX2_value_2 : List UInt8 := dkwX2_value_2 ++ dktX2_value_3
def dkwX2_value_1 : List UInt8 := [21, 4, 153, 0, 30, 29, 184, 0, 213, 153, 0, 23, 29, 27, 28, 184, 0, 226, 184, 0, 187, 27]
abbrev dktX2_value_1 : List UInt8 := dkwX2_value_1 ++ dktX2_value_2
def dkwX2_value_0 : List UInt8 := [42, 180, 0, 156, 153, 0, 16, 42, 27, 28, 182, 0, 222, 153, 0, 7, 4, 167, 0, 4, 3, 54, 4]
abbrev dktX2_value_0 : List UInt8 := dkwX2_value_0 ++ dktX2_value_1
theorem dksX2_value_0 : cX2_value.data.toList.drop 0 = dktX2_value_0 := by decide +kernel
theorem dksX2_value_1 : cX2_value.data.toList.drop 23 = dktX2_value_1 := dk_seg dksX2_value_0 23 rfl rfl
theorem dksX2_value_2 : cX2_value.data.toList.drop 45 = dktX2_value_2 := dk_seg dksX2_value_1 22 rfl rfl
theorem dksX2_value_3 : cX2_value.data.toList.drop 67 = dktX2_value_3 := dk_seg dksX2_value_2 22 rfl rfl
theorem dX2_value_0 : decode cX2_value 0 = .ok (.aload_n 0, 1) := dk_42 (dk_at dksX2_value_0 0 rfl rfl)
theorem dX2_value_1 : decode cX2_value 1 = .ok (.getfield 156, 3) := dk_180 0 156 (dk_at dksX2_value_0 1 rfl rfl)
theorem dX2_value_4 : decode cX2_value 4 = .ok (.ifCond .eq 16, 3) := dk_153 0 16 (dk_at dksX2_value_0 4 rfl rfl)
theorem dX2_value_7 : decode cX2_value 7 = .ok (.aload_n 0, 1) := dk_42 (dk_at dksX2_value_0 7 rfl rfl)
theorem dX2_value_8 : decode cX2_value 8 = .ok (.iload_n 1, 1) := dk_27 (dk_at dksX2_value_0 8 rfl rfl)
theorem dX2_value_9 : decode cX2_value 9 = .ok (.iload_n 2, 1) := dk_28 (dk_at dksX2_value_0 9 rfl rfl)
theorem dX2_value_10 : decode cX2_value 10 = .ok (.invokevirtual 222, 3) := dk_182 0 222 (dk_at dksX2_value_0 10 rfl rfl)
theorem dX2_value_13 : decode cX2_value 13 = .ok (.ifCond .eq 7, 3) := dk_153 0 7 (dk_at dksX2_value_0 13 rfl rfl)
theorem dX2_value_16 : decode cX2_value 16 = .ok (.iconst 1, 1) := dk_4 (dk_at dksX2_value_0 16 rfl rfl)
theorem dX2_value_17 : decode cX2_value 17 = .ok (.goto 4, 3) := dk_167 0 4 (dk_at dksX2_value_0 17 rfl rfl)
theorem dX2_value_20 : decode cX2_value 20 = .ok (.iconst 0, 1) := dk_3 (dk_at dksX2_value_0 20 rfl rfl)
theorem dX2_value_21 : decode cX2_value 21 = .ok (.istore 4, 2) := dk_54 4 (dk_at dksX2_value_0 21 rfl rfl)
theorem dX2_value_23 : decode cX2_value 23 = .ok (.iload 4, 2) := dk_21 4 (dk_at dksX2_value_1 0 rfl rfl)
theorem dX2_value_25 : decode cX2_value 25 = .ok (.ifCond .eq 30, 3) := dk_153 0 30 (dk_at dksX2_value_1 2 rfl rfl)
theorem dX2_value_28 : decode cX2_value 28 = .ok (.iload_n 3, 1) := dk_29 (dk_at dksX2_value_1 5 rfl rfl)
theorem dX2_value_29 : decode cX2_value 29 = .ok (.invokestatic 213, 3) := dk_184 0 213 (dk_at dksX2_value_1 6 rfl rfl)
theorem dX2_value_32 : decode cX2_value 32 = .ok (.ifCond .eq 23, 3) := dk_153 0 23 (dk_at dksX2_value_1 9 rfl rfl)
theorem dX2_value_35 : decode cX2_value 35 = .ok (.iload_n 3, 1) := dk_29 (dk_at dksX2_value_1 12 rfl rfl)
theorem dX2_value_36 : decode cX2_value 36 = .ok (.iload_n 1, 1) := dk_27 (dk_at dksX2_value_1 13 rfl rfl)
theorem dX2_value_37 : decode cX2_value 37 = .ok (.iload_n 2, 1) := dk_28 (dk_at dksX2_value_1 14 rfl rfl)
theorem dX2_value_38 : decode cX2_value 38 = .ok (.invokestatic 226, 3) := dk_184 0 226 (dk_at dksX2_value_1 15 rfl rfl)
theorem dX2_value_41 : decode cX2_value 41 = .ok (.invokestatic 187, 3) := dk_184 0 187 (dk_at dksX2_value_1 18 rfl rfl)
theorem dX2_value_44 : decode cX2_value 44 = .ok (.iload_n 1, 1) := dk_27 (dk_at dksX2_value_1 21 rfl rfl)
theorem dX2_value_45 : decode cX2_value 45 = .ok (.invokestatic 174, 3) := dk_184 0 174 (dk_at dksX2_value_2 0 rfl rfl)
theorem dX2_value_48 : decode cX2_value 48 = .ok (.if_icmp .lt 7, 3) := dk_161 0 7 (dk_at dksX2_value_2 3 rfl rfl)
theorem dX2_value_51 : decode cX2_value 51 = .ok (.iconst 1, 1) := dk_4 (dk_at dksX2_value_2 6 rfl rfl)
theorem dX2_value_52 : decode cX2_value 52 = .ok (.goto 4, 3) := dk_167 0 4 (dk_at dksX2_value_2 7 rfl rfl)
theorem dX2_value_55 : decode cX2_value 55 = .ok (.iconst 0, 1) := dk_3 (dk_at dksX2_value_2 10 rfl rfl)
theorem dX2_value_56 : decode cX2_value 56 = .ok (.istore 5, 2) := dk_54 5 (dk_at dksX2_value_2 11 rfl rfl)
theorem dX2_value_58 : decode cX2_value 58 = .ok (.aload_n 0, 1) := dk_42 (dk_at dksX2_value_2 13 rfl rfl)
theorem dX2_value_59 : decode cX2_value 59 = .ok (.aload_n 0, 1) := dk_42 (dk_at dksX2_value_2 14 rfl rfl)
theorem dX2_value_60 : decode cX2_value 60 = .ok (.getfield 156, 3) := dk_180 0 156 (dk_at dksX2_value_2 15 rfl rfl)
theorem dX2_value_63 : decode cX2_value 63 = .ok (.iload 4, 2) := dk_21 4 (dk_at dksX2_value_2 18 rfl rfl)
theorem dX2_value_65 : decode cX2_value 65 = .ok (.iload 5, 2) := dk_21 5 (dk_at dksX2_value_2 20 rfl rfl)
theorem dX2_value_67 : decode cX2_value 67 = .ok (.invokevirtual 60, 3) := dk_182 0 60 (dk_at dksX2_value_3 0 rfl rfl)
theorem dX2_value_70 : decode cX2_value 70 = .ok (.ifCond .eq 13, 3) := dk_153 0 13 (dk_at dksX2_value_3 3 rfl rfl)
theorem dX2_value_73 : decode cX2_value 73 = .ok (.aload_n 0, 1) := dk_42 (dk_at dksX2_value_3 6 rfl rfl)
theorem dX2_value_74 : decode cX2_value 74 = .ok (.iload_n 1, 1) := dk_27 (dk_at dksX2_value_3 7 rfl rfl)
theorem dX2_value_75 : decode cX2_value 75 = .ok (.iload_n 2, 1) := dk_28 (dk_at dksX2_value_3 8 rfl rfl)
theorem dX2_value_76 : decode cX2_value 76 = .ok (.iload_n 3, 1) := dk_29 (dk_at dksX2_value_3 9 rfl rfl)
theorem dX2_value_77 : decode cX2_value 77 = .ok (.invokevirtual 289, 3) := dk_182 1 33 (dk_at dksX2_value_3 10 rfl rfl)
theorem dX2_value_80 : decode cX2_value 80 = .ok (.goto 4, 3) := dk_167 0 4 (dk_at dksX2_value_3 13 rfl rfl)
theorem dX2_value_83 : decode cX2_value 83 = .ok (.dconst 0, 1) := dk_14 (dk_at dksX2_value_3 16 rfl rfl)
theorem dX2_value_84 : decode cX2_value 84 = .ok (.dreturn, 1) := dk_175 (dk_at dksX2_value_3 17 rfl rfl)
abbrev cX2_boundOf : ByteArray := prog_10_method_85_code
def yX2_boundOf : MethodName := ⟨RX2, "boundOf", "(II)D"⟩
def dkwX2_boundOf_5 : List UInt8 := [21, 7, 100, 135, 111, 99, 74, 132, 5, 1, 167, 255, 140, 41, 175]
abbrev dktX2_boundOf_5 : List UInt8 := dkwX2_boundOf_5 ++ []
def dkwX2_boundOf_4 : List UInt8 := [180, 0, 38, 21, 5, 46, 42, 180, 0, 41, 21, 5, 46, 4, 182, 0, 200, 135, 24, 10, 107, 21, 6]
abbrev dktX2_boundOf_4 : List UInt8 := dkwX2_boundOf_4 ++ dktX2_boundOf_5
def dkwX2_boundOf_3 : List UInt8 := [21, 12, 28, 163, 0, 16, 24, 10, 24, 8, 107, 57, 10, 132, 12, 1, 167, 255, 240, 41, 42, 42]
abbrev dktX2_boundOf_3 : List UInt8 := dkwX2_boundOf_3 ++ dktX2_boundOf_4
def dkwX2_boundOf_2 : List UInt8 := [46, 184, 0, 174, 5, 108, 54, 7, 21, 7, 135, 21, 6, 135, 111, 57, 8, 15, 57, 10, 3, 54, 12]
abbrev dktX2_boundOf_2 : List UInt8 := dkwX2_boundOf_2 ++ dktX2_boundOf_3
def dkwX2_boundOf_1 : List UInt8 := [21, 5, 46, 42, 180, 0, 41, 21, 5, 46, 184, 0, 226, 184, 0, 187, 54, 6, 42, 180, 0, 38, 21, 5]
abbrev dktX2_boundOf_1 : List UInt8 := dkwX2_boundOf_1 ++ dktX2_boundOf_2
def dkwX2_boundOf_0 : List UInt8 := [42, 27, 182, 1, 19, 14, 74, 3, 54, 5, 21, 5, 42, 180, 1, 13, 162, 0, 113, 27, 42, 180, 0, 38]
abbrev dktX2_boundOf_0 : List UInt8 := dkwX2_boundOf_0 ++ dktX2_boundOf_1
theorem dksX2_boundOf_0 : cX2_boundOf.data.toList.drop 0 = dktX2_boundOf_0 := by decide +kernel
theorem dksX2_boundOf_1 : cX2_boundOf.data.toList.drop 24 = dktX2_boundOf_1 := dk_seg dksX2_boundOf_0 24 rfl rfl
theorem dksX2_boundOf_2 : cX2_boundOf.data.toList.drop 48 = dktX2_boundOf_2 := dk_seg dksX2_boundOf_1 24 rfl rfl
theorem dksX2_boundOf_3 : cX2_boundOf.data.toList.drop 71 = dktX2_boundOf_3 := dk_seg dksX2_boundOf_2 23 rfl rfl
theorem dksX2_boundOf_4 : cX2_boundOf.data.toList.drop 93 = dktX2_boundOf_4 := dk_seg dksX2_boundOf_3 22 rfl rfl
theorem dksX2_boundOf_5 : cX2_boundOf.data.toList.drop 116 = dktX2_boundOf_5 := dk_seg dksX2_boundOf_4 23 rfl rfl
theorem dX2_boundOf_0 : decode cX2_boundOf 0 = .ok (.aload_n 0, 1) := dk_42 (dk_at dksX2_boundOf_0 0 rfl rfl)
theorem dX2_boundOf_1 : decode cX2_boundOf 1 = .ok (.iload_n 1, 1) := dk_27 (dk_at dksX2_boundOf_0 1 rfl rfl)
theorem dX2_boundOf_2 : decode cX2_boundOf 2 = .ok (.invokevirtual 275, 3) := dk_182 1 19 (dk_at dksX2_boundOf_0 2 rfl rfl)
theorem dX2_boundOf_5 : decode cX2_boundOf 5 = .ok (.dconst 0, 1) := dk_14 (dk_at dksX2_boundOf_0 5 rfl rfl)
theorem dX2_boundOf_6 : decode cX2_boundOf 6 = .ok (.dstore_n 3, 1) := dk_74 (dk_at dksX2_boundOf_0 6 rfl rfl)
theorem dX2_boundOf_7 : decode cX2_boundOf 7 = .ok (.iconst 0, 1) := dk_3 (dk_at dksX2_boundOf_0 7 rfl rfl)
theorem dX2_boundOf_8 : decode cX2_boundOf 8 = .ok (.istore 5, 2) := dk_54 5 (dk_at dksX2_boundOf_0 8 rfl rfl)
theorem dX2_boundOf_10 : decode cX2_boundOf 10 = .ok (.iload 5, 2) := dk_21 5 (dk_at dksX2_boundOf_0 10 rfl rfl)
theorem dX2_boundOf_12 : decode cX2_boundOf 12 = .ok (.aload_n 0, 1) := dk_42 (dk_at dksX2_boundOf_0 12 rfl rfl)
theorem dX2_boundOf_13 : decode cX2_boundOf 13 = .ok (.getfield 269, 3) := dk_180 1 13 (dk_at dksX2_boundOf_0 13 rfl rfl)
theorem dX2_boundOf_16 : decode cX2_boundOf 16 = .ok (.if_icmp .ge 113, 3) := dk_162 0 113 (dk_at dksX2_boundOf_0 16 rfl rfl)
theorem dX2_boundOf_19 : decode cX2_boundOf 19 = .ok (.iload_n 1, 1) := dk_27 (dk_at dksX2_boundOf_0 19 rfl rfl)
theorem dX2_boundOf_20 : decode cX2_boundOf 20 = .ok (.aload_n 0, 1) := dk_42 (dk_at dksX2_boundOf_0 20 rfl rfl)
theorem dX2_boundOf_21 : decode cX2_boundOf 21 = .ok (.getfield 38, 3) := dk_180 0 38 (dk_at dksX2_boundOf_0 21 rfl rfl)
theorem dX2_boundOf_24 : decode cX2_boundOf 24 = .ok (.iload 5, 2) := dk_21 5 (dk_at dksX2_boundOf_1 0 rfl rfl)
theorem dX2_boundOf_26 : decode cX2_boundOf 26 = .ok (.iaload, 1) := dk_46 (dk_at dksX2_boundOf_1 2 rfl rfl)
theorem dX2_boundOf_27 : decode cX2_boundOf 27 = .ok (.aload_n 0, 1) := dk_42 (dk_at dksX2_boundOf_1 3 rfl rfl)
theorem dX2_boundOf_28 : decode cX2_boundOf 28 = .ok (.getfield 41, 3) := dk_180 0 41 (dk_at dksX2_boundOf_1 4 rfl rfl)
theorem dX2_boundOf_31 : decode cX2_boundOf 31 = .ok (.iload 5, 2) := dk_21 5 (dk_at dksX2_boundOf_1 7 rfl rfl)
theorem dX2_boundOf_33 : decode cX2_boundOf 33 = .ok (.iaload, 1) := dk_46 (dk_at dksX2_boundOf_1 9 rfl rfl)
theorem dX2_boundOf_34 : decode cX2_boundOf 34 = .ok (.invokestatic 226, 3) := dk_184 0 226 (dk_at dksX2_boundOf_1 10 rfl rfl)
theorem dX2_boundOf_37 : decode cX2_boundOf 37 = .ok (.invokestatic 187, 3) := dk_184 0 187 (dk_at dksX2_boundOf_1 13 rfl rfl)
theorem dX2_boundOf_40 : decode cX2_boundOf 40 = .ok (.istore 6, 2) := dk_54 6 (dk_at dksX2_boundOf_1 16 rfl rfl)
theorem dX2_boundOf_42 : decode cX2_boundOf 42 = .ok (.aload_n 0, 1) := dk_42 (dk_at dksX2_boundOf_1 18 rfl rfl)
theorem dX2_boundOf_43 : decode cX2_boundOf 43 = .ok (.getfield 38, 3) := dk_180 0 38 (dk_at dksX2_boundOf_1 19 rfl rfl)
theorem dX2_boundOf_46 : decode cX2_boundOf 46 = .ok (.iload 5, 2) := dk_21 5 (dk_at dksX2_boundOf_1 22 rfl rfl)
theorem dX2_boundOf_48 : decode cX2_boundOf 48 = .ok (.iaload, 1) := dk_46 (dk_at dksX2_boundOf_2 0 rfl rfl)
theorem dX2_boundOf_49 : decode cX2_boundOf 49 = .ok (.invokestatic 174, 3) := dk_184 0 174 (dk_at dksX2_boundOf_2 1 rfl rfl)
theorem dX2_boundOf_52 : decode cX2_boundOf 52 = .ok (.iconst 2, 1) := dk_5 (dk_at dksX2_boundOf_2 4 rfl rfl)
theorem dX2_boundOf_53 : decode cX2_boundOf 53 = .ok (.idiv, 1) := dk_108 (dk_at dksX2_boundOf_2 5 rfl rfl)
theorem dX2_boundOf_54 : decode cX2_boundOf 54 = .ok (.istore 7, 2) := dk_54 7 (dk_at dksX2_boundOf_2 6 rfl rfl)
theorem dX2_boundOf_56 : decode cX2_boundOf 56 = .ok (.iload 7, 2) := dk_21 7 (dk_at dksX2_boundOf_2 8 rfl rfl)
theorem dX2_boundOf_58 : decode cX2_boundOf 58 = .ok (.i2d, 1) := dk_135 (dk_at dksX2_boundOf_2 10 rfl rfl)
theorem dX2_boundOf_59 : decode cX2_boundOf 59 = .ok (.iload 6, 2) := dk_21 6 (dk_at dksX2_boundOf_2 11 rfl rfl)
theorem dX2_boundOf_61 : decode cX2_boundOf 61 = .ok (.i2d, 1) := dk_135 (dk_at dksX2_boundOf_2 13 rfl rfl)
theorem dX2_boundOf_62 : decode cX2_boundOf 62 = .ok (.ddiv, 1) := dk_111 (dk_at dksX2_boundOf_2 14 rfl rfl)
theorem dX2_boundOf_63 : decode cX2_boundOf 63 = .ok (.dstore 8, 2) := dk_57 8 (dk_at dksX2_boundOf_2 15 rfl rfl)
theorem dX2_boundOf_65 : decode cX2_boundOf 65 = .ok (.dconst 1, 1) := dk_15 (dk_at dksX2_boundOf_2 17 rfl rfl)
theorem dX2_boundOf_66 : decode cX2_boundOf 66 = .ok (.dstore 10, 2) := dk_57 10 (dk_at dksX2_boundOf_2 18 rfl rfl)
theorem dX2_boundOf_68 : decode cX2_boundOf 68 = .ok (.iconst 0, 1) := dk_3 (dk_at dksX2_boundOf_2 20 rfl rfl)
theorem dX2_boundOf_69 : decode cX2_boundOf 69 = .ok (.istore 12, 2) := dk_54 12 (dk_at dksX2_boundOf_2 21 rfl rfl)
theorem dX2_boundOf_71 : decode cX2_boundOf 71 = .ok (.iload 12, 2) := dk_21 12 (dk_at dksX2_boundOf_3 0 rfl rfl)
theorem dX2_boundOf_73 : decode cX2_boundOf 73 = .ok (.iload_n 2, 1) := dk_28 (dk_at dksX2_boundOf_3 2 rfl rfl)
theorem dX2_boundOf_74 : decode cX2_boundOf 74 = .ok (.if_icmp .gt 16, 3) := dk_163 0 16 (dk_at dksX2_boundOf_3 3 rfl rfl)
theorem dX2_boundOf_77 : decode cX2_boundOf 77 = .ok (.dload 10, 2) := dk_24 10 (dk_at dksX2_boundOf_3 6 rfl rfl)
theorem dX2_boundOf_79 : decode cX2_boundOf 79 = .ok (.dload 8, 2) := dk_24 8 (dk_at dksX2_boundOf_3 8 rfl rfl)
theorem dX2_boundOf_81 : decode cX2_boundOf 81 = .ok (.dmul, 1) := dk_107 (dk_at dksX2_boundOf_3 10 rfl rfl)
theorem dX2_boundOf_82 : decode cX2_boundOf 82 = .ok (.dstore 10, 2) := dk_57 10 (dk_at dksX2_boundOf_3 11 rfl rfl)
theorem dX2_boundOf_84 : decode cX2_boundOf 84 = .ok (.iinc 12 1, 3) := dk_132 12 1 (dk_at dksX2_boundOf_3 13 rfl rfl)
theorem dX2_boundOf_87 : decode cX2_boundOf 87 = .ok (.goto (-16), 3) := dk_167 255 240 (dk_at dksX2_boundOf_3 16 rfl rfl)
theorem dX2_boundOf_90 : decode cX2_boundOf 90 = .ok (.dload_n 3, 1) := dk_41 (dk_at dksX2_boundOf_3 19 rfl rfl)
theorem dX2_boundOf_91 : decode cX2_boundOf 91 = .ok (.aload_n 0, 1) := dk_42 (dk_at dksX2_boundOf_3 20 rfl rfl)
theorem dX2_boundOf_92 : decode cX2_boundOf 92 = .ok (.aload_n 0, 1) := dk_42 (dk_at dksX2_boundOf_3 21 rfl rfl)
theorem dX2_boundOf_93 : decode cX2_boundOf 93 = .ok (.getfield 38, 3) := dk_180 0 38 (dk_at dksX2_boundOf_4 0 rfl rfl)
theorem dX2_boundOf_96 : decode cX2_boundOf 96 = .ok (.iload 5, 2) := dk_21 5 (dk_at dksX2_boundOf_4 3 rfl rfl)
theorem dX2_boundOf_98 : decode cX2_boundOf 98 = .ok (.iaload, 1) := dk_46 (dk_at dksX2_boundOf_4 5 rfl rfl)
theorem dX2_boundOf_99 : decode cX2_boundOf 99 = .ok (.aload_n 0, 1) := dk_42 (dk_at dksX2_boundOf_4 6 rfl rfl)
theorem dX2_boundOf_100 : decode cX2_boundOf 100 = .ok (.getfield 41, 3) := dk_180 0 41 (dk_at dksX2_boundOf_4 7 rfl rfl)
theorem dX2_boundOf_103 : decode cX2_boundOf 103 = .ok (.iload 5, 2) := dk_21 5 (dk_at dksX2_boundOf_4 10 rfl rfl)
theorem dX2_boundOf_105 : decode cX2_boundOf 105 = .ok (.iaload, 1) := dk_46 (dk_at dksX2_boundOf_4 12 rfl rfl)
theorem dX2_boundOf_106 : decode cX2_boundOf 106 = .ok (.iconst 1, 1) := dk_4 (dk_at dksX2_boundOf_4 13 rfl rfl)
theorem dX2_boundOf_107 : decode cX2_boundOf 107 = .ok (.invokevirtual 200, 3) := dk_182 0 200 (dk_at dksX2_boundOf_4 14 rfl rfl)
theorem dX2_boundOf_110 : decode cX2_boundOf 110 = .ok (.i2d, 1) := dk_135 (dk_at dksX2_boundOf_4 17 rfl rfl)
theorem dX2_boundOf_111 : decode cX2_boundOf 111 = .ok (.dload 10, 2) := dk_24 10 (dk_at dksX2_boundOf_4 18 rfl rfl)
theorem dX2_boundOf_113 : decode cX2_boundOf 113 = .ok (.dmul, 1) := dk_107 (dk_at dksX2_boundOf_4 20 rfl rfl)
theorem dX2_boundOf_114 : decode cX2_boundOf 114 = .ok (.iload 6, 2) := dk_21 6 (dk_at dksX2_boundOf_4 21 rfl rfl)
theorem dX2_boundOf_116 : decode cX2_boundOf 116 = .ok (.iload 7, 2) := dk_21 7 (dk_at dksX2_boundOf_5 0 rfl rfl)
theorem dX2_boundOf_118 : decode cX2_boundOf 118 = .ok (.isub, 1) := dk_100 (dk_at dksX2_boundOf_5 2 rfl rfl)
theorem dX2_boundOf_119 : decode cX2_boundOf 119 = .ok (.i2d, 1) := dk_135 (dk_at dksX2_boundOf_5 3 rfl rfl)
theorem dX2_boundOf_120 : decode cX2_boundOf 120 = .ok (.ddiv, 1) := dk_111 (dk_at dksX2_boundOf_5 4 rfl rfl)
theorem dX2_boundOf_121 : decode cX2_boundOf 121 = .ok (.dadd, 1) := dk_99 (dk_at dksX2_boundOf_5 5 rfl rfl)
theorem dX2_boundOf_122 : decode cX2_boundOf 122 = .ok (.dstore_n 3, 1) := dk_74 (dk_at dksX2_boundOf_5 6 rfl rfl)
theorem dX2_boundOf_123 : decode cX2_boundOf 123 = .ok (.iinc 5 1, 3) := dk_132 5 1 (dk_at dksX2_boundOf_5 7 rfl rfl)
theorem dX2_boundOf_126 : decode cX2_boundOf 126 = .ok (.goto (-116), 3) := dk_167 255 140 (dk_at dksX2_boundOf_5 10 rfl rfl)
theorem dX2_boundOf_129 : decode cX2_boundOf 129 = .ok (.dload_n 3, 1) := dk_41 (dk_at dksX2_boundOf_5 13 rfl rfl)
theorem dX2_boundOf_130 : decode cX2_boundOf 130 = .ok (.dreturn, 1) := dk_175 (dk_at dksX2_boundOf_5 14 rfl rfl)
abbrev cX2_bound : ByteArray := prog_10_method_86_code
def yX2_bound : MethodName := ⟨RX2, "bound", "(I)D"⟩
def dkwX2_bound_0 : List UInt8 := [42, 27, 182, 0, 216, 153, 0, 17, 42, 27, 42, 180, 0, 9, 7, 46, 182, 1, 47, 167, 0, 4, 14, 175]
abbrev dktX2_bound_0 : List UInt8 := dkwX2_bound_0 ++ []
theorem dksX2_bound_0 : cX2_bound.data.toList.drop 0 = dktX2_bound_0 := by decide +kernel
theorem dX2_bound_0 : decode cX2_bound 0 = .ok (.aload_n 0, 1) := dk_42 (dk_at dksX2_bound_0 0 rfl rfl)
theorem dX2_bound_1 : decode cX2_bound 1 = .ok (.iload_n 1, 1) := dk_27 (dk_at dksX2_bound_0 1 rfl rfl)
theorem dX2_bound_2 : decode cX2_bound 2 = .ok (.invokevirtual 216, 3) := dk_182 0 216 (dk_at dksX2_bound_0 2 rfl rfl)
theorem dX2_bound_5 : decode cX2_bound 5 = .ok (.ifCond .eq 17, 3) := dk_153 0 17 (dk_at dksX2_bound_0 5 rfl rfl)
theorem dX2_bound_8 : decode cX2_bound 8 = .ok (.aload_n 0, 1) := dk_42 (dk_at dksX2_bound_0 8 rfl rfl)
theorem dX2_bound_9 : decode cX2_bound 9 = .ok (.iload_n 1, 1) := dk_27 (dk_at dksX2_bound_0 9 rfl rfl)
theorem dX2_bound_10 : decode cX2_bound 10 = .ok (.aload_n 0, 1) := dk_42 (dk_at dksX2_bound_0 10 rfl rfl)
theorem dX2_bound_11 : decode cX2_bound 11 = .ok (.getfield 9, 3) := dk_180 0 9 (dk_at dksX2_bound_0 11 rfl rfl)
theorem dX2_bound_14 : decode cX2_bound 14 = .ok (.iconst 4, 1) := dk_7 (dk_at dksX2_bound_0 14 rfl rfl)
theorem dX2_bound_15 : decode cX2_bound 15 = .ok (.iaload, 1) := dk_46 (dk_at dksX2_bound_0 15 rfl rfl)
theorem dX2_bound_16 : decode cX2_bound 16 = .ok (.invokevirtual 303, 3) := dk_182 1 47 (dk_at dksX2_bound_0 16 rfl rfl)
theorem dX2_bound_19 : decode cX2_bound 19 = .ok (.goto 4, 3) := dk_167 0 4 (dk_at dksX2_bound_0 19 rfl rfl)
theorem dX2_bound_22 : decode cX2_bound 22 = .ok (.dconst 0, 1) := dk_14 (dk_at dksX2_bound_0 22 rfl rfl)
theorem dX2_bound_23 : decode cX2_bound 23 = .ok (.dreturn, 1) := dk_175 (dk_at dksX2_bound_0 23 rfl rfl)
abbrev cX2_energy : ByteArray := prog_10_method_89_code
def yX2_energy : MethodName := ⟨RX2, "energy", "(Z)D"⟩
def dkwX2_energy_3 : List UInt8 := [4, 182, 0, 163, 135, 24, 6, 107, 99, 73, 132, 4, 1, 167, 255, 187, 40, 20, 1, 55, 111, 175]
abbrev dktX2_energy_3 : List UInt8 := dkwX2_energy_3 ++ []
def dkwX2_energy_2 : List UInt8 := [42, 21, 5, 182, 1, 37, 99, 167, 0, 11, 42, 21, 5, 4, 2, 182, 1, 29, 57, 6, 40, 42, 21, 4]
abbrev dktX2_energy_2 : List UInt8 := dkwX2_energy_2 ++ dktX2_energy_3
def dkwX2_energy_1 : List UInt8 := [162, 0, 64, 42, 21, 4, 3, 182, 0, 163, 54, 5, 27, 153, 0, 21, 42, 21, 5, 3, 2, 182, 1, 29]
abbrev dktX2_energy_1 : List UInt8 := dkwX2_energy_1 ++ dktX2_energy_2
def dkwX2_energy_0 : List UInt8 := [42, 182, 0, 229, 154, 0, 5, 14, 175, 14, 73, 3, 54, 4, 21, 4, 42, 180, 0, 9, 3, 46]
abbrev dktX2_energy_0 : List UInt8 := dkwX2_energy_0 ++ dktX2_energy_1
theorem dksX2_energy_0 : cX2_energy.data.toList.drop 0 = dktX2_energy_0 := by decide +kernel
theorem dksX2_energy_1 : cX2_energy.data.toList.drop 22 = dktX2_energy_1 := dk_seg dksX2_energy_0 22 rfl rfl
theorem dksX2_energy_2 : cX2_energy.data.toList.drop 46 = dktX2_energy_2 := dk_seg dksX2_energy_1 24 rfl rfl
theorem dksX2_energy_3 : cX2_energy.data.toList.drop 70 = dktX2_energy_3 := dk_seg dksX2_energy_2 24 rfl rfl
theorem dX2_energy_0 : decode cX2_energy 0 = .ok (.aload_n 0, 1) := dk_42 (dk_at dksX2_energy_0 0 rfl rfl)
theorem dX2_energy_1 : decode cX2_energy 1 = .ok (.invokevirtual 229, 3) := dk_182 0 229 (dk_at dksX2_energy_0 1 rfl rfl)
theorem dX2_energy_4 : decode cX2_energy 4 = .ok (.ifCond .ne 5, 3) := dk_154 0 5 (dk_at dksX2_energy_0 4 rfl rfl)
theorem dX2_energy_7 : decode cX2_energy 7 = .ok (.dconst 0, 1) := dk_14 (dk_at dksX2_energy_0 7 rfl rfl)
theorem dX2_energy_8 : decode cX2_energy 8 = .ok (.dreturn, 1) := dk_175 (dk_at dksX2_energy_0 8 rfl rfl)
theorem dX2_energy_9 : decode cX2_energy 9 = .ok (.dconst 0, 1) := dk_14 (dk_at dksX2_energy_0 9 rfl rfl)
theorem dX2_energy_10 : decode cX2_energy 10 = .ok (.dstore_n 2, 1) := dk_73 (dk_at dksX2_energy_0 10 rfl rfl)
theorem dX2_energy_11 : decode cX2_energy 11 = .ok (.iconst 0, 1) := dk_3 (dk_at dksX2_energy_0 11 rfl rfl)
theorem dX2_energy_12 : decode cX2_energy 12 = .ok (.istore 4, 2) := dk_54 4 (dk_at dksX2_energy_0 12 rfl rfl)
theorem dX2_energy_14 : decode cX2_energy 14 = .ok (.iload 4, 2) := dk_21 4 (dk_at dksX2_energy_0 14 rfl rfl)
theorem dX2_energy_16 : decode cX2_energy 16 = .ok (.aload_n 0, 1) := dk_42 (dk_at dksX2_energy_0 16 rfl rfl)
theorem dX2_energy_17 : decode cX2_energy 17 = .ok (.getfield 9, 3) := dk_180 0 9 (dk_at dksX2_energy_0 17 rfl rfl)
theorem dX2_energy_20 : decode cX2_energy 20 = .ok (.iconst 0, 1) := dk_3 (dk_at dksX2_energy_0 20 rfl rfl)
theorem dX2_energy_21 : decode cX2_energy 21 = .ok (.iaload, 1) := dk_46 (dk_at dksX2_energy_0 21 rfl rfl)
theorem dX2_energy_22 : decode cX2_energy 22 = .ok (.if_icmp .ge 64, 3) := dk_162 0 64 (dk_at dksX2_energy_1 0 rfl rfl)
theorem dX2_energy_25 : decode cX2_energy 25 = .ok (.aload_n 0, 1) := dk_42 (dk_at dksX2_energy_1 3 rfl rfl)
theorem dX2_energy_26 : decode cX2_energy 26 = .ok (.iload 4, 2) := dk_21 4 (dk_at dksX2_energy_1 4 rfl rfl)
theorem dX2_energy_28 : decode cX2_energy 28 = .ok (.iconst 0, 1) := dk_3 (dk_at dksX2_energy_1 6 rfl rfl)
theorem dX2_energy_29 : decode cX2_energy 29 = .ok (.invokevirtual 163, 3) := dk_182 0 163 (dk_at dksX2_energy_1 7 rfl rfl)
theorem dX2_energy_32 : decode cX2_energy 32 = .ok (.istore 5, 2) := dk_54 5 (dk_at dksX2_energy_1 10 rfl rfl)
theorem dX2_energy_34 : decode cX2_energy 34 = .ok (.iload_n 1, 1) := dk_27 (dk_at dksX2_energy_1 12 rfl rfl)
theorem dX2_energy_35 : decode cX2_energy 35 = .ok (.ifCond .eq 21, 3) := dk_153 0 21 (dk_at dksX2_energy_1 13 rfl rfl)
theorem dX2_energy_38 : decode cX2_energy 38 = .ok (.aload_n 0, 1) := dk_42 (dk_at dksX2_energy_1 16 rfl rfl)
theorem dX2_energy_39 : decode cX2_energy 39 = .ok (.iload 5, 2) := dk_21 5 (dk_at dksX2_energy_1 17 rfl rfl)
theorem dX2_energy_41 : decode cX2_energy 41 = .ok (.iconst 0, 1) := dk_3 (dk_at dksX2_energy_1 19 rfl rfl)
theorem dX2_energy_42 : decode cX2_energy 42 = .ok (.iconst (-1), 1) := dk_2 (dk_at dksX2_energy_1 20 rfl rfl)
theorem dX2_energy_43 : decode cX2_energy 43 = .ok (.invokevirtual 285, 3) := dk_182 1 29 (dk_at dksX2_energy_1 21 rfl rfl)
theorem dX2_energy_46 : decode cX2_energy 46 = .ok (.aload_n 0, 1) := dk_42 (dk_at dksX2_energy_2 0 rfl rfl)
theorem dX2_energy_47 : decode cX2_energy 47 = .ok (.iload 5, 2) := dk_21 5 (dk_at dksX2_energy_2 1 rfl rfl)
theorem dX2_energy_49 : decode cX2_energy 49 = .ok (.invokevirtual 293, 3) := dk_182 1 37 (dk_at dksX2_energy_2 3 rfl rfl)
theorem dX2_energy_52 : decode cX2_energy 52 = .ok (.dadd, 1) := dk_99 (dk_at dksX2_energy_2 6 rfl rfl)
theorem dX2_energy_53 : decode cX2_energy 53 = .ok (.goto 11, 3) := dk_167 0 11 (dk_at dksX2_energy_2 7 rfl rfl)
theorem dX2_energy_56 : decode cX2_energy 56 = .ok (.aload_n 0, 1) := dk_42 (dk_at dksX2_energy_2 10 rfl rfl)
theorem dX2_energy_57 : decode cX2_energy 57 = .ok (.iload 5, 2) := dk_21 5 (dk_at dksX2_energy_2 11 rfl rfl)
theorem dX2_energy_59 : decode cX2_energy 59 = .ok (.iconst 1, 1) := dk_4 (dk_at dksX2_energy_2 13 rfl rfl)
theorem dX2_energy_60 : decode cX2_energy 60 = .ok (.iconst (-1), 1) := dk_2 (dk_at dksX2_energy_2 14 rfl rfl)
theorem dX2_energy_61 : decode cX2_energy 61 = .ok (.invokevirtual 285, 3) := dk_182 1 29 (dk_at dksX2_energy_2 15 rfl rfl)
theorem dX2_energy_64 : decode cX2_energy 64 = .ok (.dstore 6, 2) := dk_57 6 (dk_at dksX2_energy_2 18 rfl rfl)
theorem dX2_energy_66 : decode cX2_energy 66 = .ok (.dload_n 2, 1) := dk_40 (dk_at dksX2_energy_2 20 rfl rfl)
theorem dX2_energy_67 : decode cX2_energy 67 = .ok (.aload_n 0, 1) := dk_42 (dk_at dksX2_energy_2 21 rfl rfl)
theorem dX2_energy_68 : decode cX2_energy 68 = .ok (.iload 4, 2) := dk_21 4 (dk_at dksX2_energy_2 22 rfl rfl)
theorem dX2_energy_70 : decode cX2_energy 70 = .ok (.iconst 1, 1) := dk_4 (dk_at dksX2_energy_3 0 rfl rfl)
theorem dX2_energy_71 : decode cX2_energy 71 = .ok (.invokevirtual 163, 3) := dk_182 0 163 (dk_at dksX2_energy_3 1 rfl rfl)
theorem dX2_energy_74 : decode cX2_energy 74 = .ok (.i2d, 1) := dk_135 (dk_at dksX2_energy_3 4 rfl rfl)
theorem dX2_energy_75 : decode cX2_energy 75 = .ok (.dload 6, 2) := dk_24 6 (dk_at dksX2_energy_3 5 rfl rfl)
theorem dX2_energy_77 : decode cX2_energy 77 = .ok (.dmul, 1) := dk_107 (dk_at dksX2_energy_3 7 rfl rfl)
theorem dX2_energy_78 : decode cX2_energy 78 = .ok (.dadd, 1) := dk_99 (dk_at dksX2_energy_3 8 rfl rfl)
theorem dX2_energy_79 : decode cX2_energy 79 = .ok (.dstore_n 2, 1) := dk_73 (dk_at dksX2_energy_3 9 rfl rfl)
theorem dX2_energy_80 : decode cX2_energy 80 = .ok (.iinc 4 1, 3) := dk_132 4 1 (dk_at dksX2_energy_3 10 rfl rfl)
theorem dX2_energy_83 : decode cX2_energy 83 = .ok (.goto (-69), 3) := dk_167 255 187 (dk_at dksX2_energy_3 13 rfl rfl)
theorem dX2_energy_86 : decode cX2_energy 86 = .ok (.dload_n 2, 1) := dk_40 (dk_at dksX2_energy_3 16 rfl rfl)
theorem dX2_energy_87 : decode cX2_energy 87 = .ok (.ldc2_w 311, 3) := dk_20 1 55 (dk_at dksX2_energy_3 17 rfl rfl)
theorem dX2_energy_90 : decode cX2_energy 90 = .ok (.ddiv, 1) := dk_111 (dk_at dksX2_energy_3 20 rfl rfl)
theorem dX2_energy_91 : decode cX2_energy 91 = .ok (.dreturn, 1) := dk_175 (dk_at dksX2_energy_3 21 rfl rfl)
abbrev cX2_absolute : ByteArray := prog_10_method_87_code
def yX2_absolute : MethodName := ⟨RX2, "absolute", "(D)D"⟩
def dkwX2_absolute_0 : List UInt8 := [38, 14, 152, 156, 0, 9, 14, 38, 103, 167, 0, 4, 38, 175]
abbrev dktX2_absolute_0 : List UInt8 := dkwX2_absolute_0 ++ []
theorem dksX2_absolute_0 : cX2_absolute.data.toList.drop 0 = dktX2_absolute_0 := by decide +kernel
theorem dX2_absolute_0 : decode cX2_absolute 0 = .ok (.dload_n 0, 1) := dk_38 (dk_at dksX2_absolute_0 0 rfl rfl)
theorem dX2_absolute_1 : decode cX2_absolute 1 = .ok (.dconst 0, 1) := dk_14 (dk_at dksX2_absolute_0 1 rfl rfl)
theorem dX2_absolute_2 : decode cX2_absolute 2 = .ok (.dcmp .g, 1) := dk_152 (dk_at dksX2_absolute_0 2 rfl rfl)
theorem dX2_absolute_3 : decode cX2_absolute 3 = .ok (.ifCond .ge 9, 3) := dk_156 0 9 (dk_at dksX2_absolute_0 3 rfl rfl)
theorem dX2_absolute_6 : decode cX2_absolute 6 = .ok (.dconst 0, 1) := dk_14 (dk_at dksX2_absolute_0 6 rfl rfl)
theorem dX2_absolute_7 : decode cX2_absolute 7 = .ok (.dload_n 0, 1) := dk_38 (dk_at dksX2_absolute_0 7 rfl rfl)
theorem dX2_absolute_8 : decode cX2_absolute 8 = .ok (.dsub, 1) := dk_103 (dk_at dksX2_absolute_0 8 rfl rfl)
theorem dX2_absolute_9 : decode cX2_absolute 9 = .ok (.goto 4, 3) := dk_167 0 4 (dk_at dksX2_absolute_0 9 rfl rfl)
theorem dX2_absolute_12 : decode cX2_absolute 12 = .ok (.dload_n 0, 1) := dk_38 (dk_at dksX2_absolute_0 12 rfl rfl)
theorem dX2_absolute_13 : decode cX2_absolute 13 = .ok (.dreturn, 1) := dk_175 (dk_at dksX2_absolute_0 13 rfl rfl)
abbrev cX2_gapOf : ByteArray := prog_10_method_88_code
def yX2_gapOf : MethodName := ⟨RX2, "gapOf", "(I)D"⟩
def dkwX2_gapOf_1 : List UInt8 := [175]
abbrev dktX2_gapOf_1 : List UInt8 := dkwX2_gapOf_1 ++ []
def dkwX2_gapOf_0 : List UInt8 := [42, 27, 4, 2, 182, 1, 29, 42, 27, 3, 2, 182, 1, 29, 42, 27, 182, 1, 37, 99, 103, 184, 1, 51]
abbrev dktX2_gapOf_0 : List UInt8 := dkwX2_gapOf_0 ++ dktX2_gapOf_1
theorem dksX2_gapOf_0 : cX2_gapOf.data.toList.drop 0 = dktX2_gapOf_0 := by decide +kernel
theorem dksX2_gapOf_1 : cX2_gapOf.data.toList.drop 24 = dktX2_gapOf_1 := dk_seg dksX2_gapOf_0 24 rfl rfl
theorem dX2_gapOf_0 : decode cX2_gapOf 0 = .ok (.aload_n 0, 1) := dk_42 (dk_at dksX2_gapOf_0 0 rfl rfl)
theorem dX2_gapOf_1 : decode cX2_gapOf 1 = .ok (.iload_n 1, 1) := dk_27 (dk_at dksX2_gapOf_0 1 rfl rfl)
theorem dX2_gapOf_2 : decode cX2_gapOf 2 = .ok (.iconst 1, 1) := dk_4 (dk_at dksX2_gapOf_0 2 rfl rfl)
theorem dX2_gapOf_3 : decode cX2_gapOf 3 = .ok (.iconst (-1), 1) := dk_2 (dk_at dksX2_gapOf_0 3 rfl rfl)
theorem dX2_gapOf_4 : decode cX2_gapOf 4 = .ok (.invokevirtual 285, 3) := dk_182 1 29 (dk_at dksX2_gapOf_0 4 rfl rfl)
theorem dX2_gapOf_7 : decode cX2_gapOf 7 = .ok (.aload_n 0, 1) := dk_42 (dk_at dksX2_gapOf_0 7 rfl rfl)
theorem dX2_gapOf_8 : decode cX2_gapOf 8 = .ok (.iload_n 1, 1) := dk_27 (dk_at dksX2_gapOf_0 8 rfl rfl)
theorem dX2_gapOf_9 : decode cX2_gapOf 9 = .ok (.iconst 0, 1) := dk_3 (dk_at dksX2_gapOf_0 9 rfl rfl)
theorem dX2_gapOf_10 : decode cX2_gapOf 10 = .ok (.iconst (-1), 1) := dk_2 (dk_at dksX2_gapOf_0 10 rfl rfl)
theorem dX2_gapOf_11 : decode cX2_gapOf 11 = .ok (.invokevirtual 285, 3) := dk_182 1 29 (dk_at dksX2_gapOf_0 11 rfl rfl)
theorem dX2_gapOf_14 : decode cX2_gapOf 14 = .ok (.aload_n 0, 1) := dk_42 (dk_at dksX2_gapOf_0 14 rfl rfl)
theorem dX2_gapOf_15 : decode cX2_gapOf 15 = .ok (.iload_n 1, 1) := dk_27 (dk_at dksX2_gapOf_0 15 rfl rfl)
theorem dX2_gapOf_16 : decode cX2_gapOf 16 = .ok (.invokevirtual 293, 3) := dk_182 1 37 (dk_at dksX2_gapOf_0 16 rfl rfl)
theorem dX2_gapOf_19 : decode cX2_gapOf 19 = .ok (.dadd, 1) := dk_99 (dk_at dksX2_gapOf_0 19 rfl rfl)
theorem dX2_gapOf_20 : decode cX2_gapOf 20 = .ok (.dsub, 1) := dk_103 (dk_at dksX2_gapOf_0 20 rfl rfl)
theorem dX2_gapOf_21 : decode cX2_gapOf 21 = .ok (.invokestatic 307, 3) := dk_184 1 51 (dk_at dksX2_gapOf_0 21 rfl rfl)
theorem dX2_gapOf_24 : decode cX2_gapOf 24 = .ok (.dreturn, 1) := dk_175 (dk_at dksX2_gapOf_1 0 rfl rfl)
abbrev cX2_gapAt : ByteArray := prog_10_method_90_code
def yX2_gapAt : MethodName := ⟨RX2, "gapAt", "(I)D"⟩
def dkwX2_gapAt_0 : List UInt8 := [42, 27, 182, 0, 216, 153, 0, 11, 42, 27, 182, 1, 57, 167, 0, 4, 14, 175]
abbrev dktX2_gapAt_0 : List UInt8 := dkwX2_gapAt_0 ++ []
theorem dksX2_gapAt_0 : cX2_gapAt.data.toList.drop 0 = dktX2_gapAt_0 := by decide +kernel
theorem dX2_gapAt_0 : decode cX2_gapAt 0 = .ok (.aload_n 0, 1) := dk_42 (dk_at dksX2_gapAt_0 0 rfl rfl)
theorem dX2_gapAt_1 : decode cX2_gapAt 1 = .ok (.iload_n 1, 1) := dk_27 (dk_at dksX2_gapAt_0 1 rfl rfl)
theorem dX2_gapAt_2 : decode cX2_gapAt 2 = .ok (.invokevirtual 216, 3) := dk_182 0 216 (dk_at dksX2_gapAt_0 2 rfl rfl)
theorem dX2_gapAt_5 : decode cX2_gapAt 5 = .ok (.ifCond .eq 11, 3) := dk_153 0 11 (dk_at dksX2_gapAt_0 5 rfl rfl)
theorem dX2_gapAt_8 : decode cX2_gapAt 8 = .ok (.aload_n 0, 1) := dk_42 (dk_at dksX2_gapAt_0 8 rfl rfl)
theorem dX2_gapAt_9 : decode cX2_gapAt 9 = .ok (.iload_n 1, 1) := dk_27 (dk_at dksX2_gapAt_0 9 rfl rfl)
theorem dX2_gapAt_10 : decode cX2_gapAt 10 = .ok (.invokevirtual 313, 3) := dk_182 1 57 (dk_at dksX2_gapAt_0 10 rfl rfl)
theorem dX2_gapAt_13 : decode cX2_gapAt 13 = .ok (.goto 4, 3) := dk_167 0 4 (dk_at dksX2_gapAt_0 13 rfl rfl)
theorem dX2_gapAt_16 : decode cX2_gapAt 16 = .ok (.dconst 0, 1) := dk_14 (dk_at dksX2_gapAt_0 16 rfl rfl)
theorem dX2_gapAt_17 : decode cX2_gapAt 17 = .ok (.dreturn, 1) := dk_175 (dk_at dksX2_gapAt_0 17 rfl rfl)
abbrev cX2_isWithin : ByteArray := prog_10_method_91_code
def yX2_isWithin : MethodName := ⟨RX2, "isWithin", "(I)Z"⟩
def dkwX2_isWithin_1 : List UInt8 := [20, 1, 60, 99, 152, 157, 0, 7, 4, 167, 0, 4, 3, 172]
abbrev dktX2_isWithin_1 : List UInt8 := dkwX2_isWithin_1 ++ []
def dkwX2_isWithin_0 : List UInt8 := [42, 27, 182, 0, 216, 153, 0, 31, 42, 27, 182, 1, 57, 42, 27, 42, 180, 0, 9, 7, 46, 182, 1, 47]
abbrev dktX2_isWithin_0 : List UInt8 := dkwX2_isWithin_0 ++ dktX2_isWithin_1
theorem dksX2_isWithin_0 : cX2_isWithin.data.toList.drop 0 = dktX2_isWithin_0 := by decide +kernel
theorem dksX2_isWithin_1 : cX2_isWithin.data.toList.drop 24 = dktX2_isWithin_1 := dk_seg dksX2_isWithin_0 24 rfl rfl
theorem dX2_isWithin_0 : decode cX2_isWithin 0 = .ok (.aload_n 0, 1) := dk_42 (dk_at dksX2_isWithin_0 0 rfl rfl)
theorem dX2_isWithin_1 : decode cX2_isWithin 1 = .ok (.iload_n 1, 1) := dk_27 (dk_at dksX2_isWithin_0 1 rfl rfl)
theorem dX2_isWithin_2 : decode cX2_isWithin 2 = .ok (.invokevirtual 216, 3) := dk_182 0 216 (dk_at dksX2_isWithin_0 2 rfl rfl)
theorem dX2_isWithin_5 : decode cX2_isWithin 5 = .ok (.ifCond .eq 31, 3) := dk_153 0 31 (dk_at dksX2_isWithin_0 5 rfl rfl)
theorem dX2_isWithin_8 : decode cX2_isWithin 8 = .ok (.aload_n 0, 1) := dk_42 (dk_at dksX2_isWithin_0 8 rfl rfl)
theorem dX2_isWithin_9 : decode cX2_isWithin 9 = .ok (.iload_n 1, 1) := dk_27 (dk_at dksX2_isWithin_0 9 rfl rfl)
theorem dX2_isWithin_10 : decode cX2_isWithin 10 = .ok (.invokevirtual 313, 3) := dk_182 1 57 (dk_at dksX2_isWithin_0 10 rfl rfl)
theorem dX2_isWithin_13 : decode cX2_isWithin 13 = .ok (.aload_n 0, 1) := dk_42 (dk_at dksX2_isWithin_0 13 rfl rfl)
theorem dX2_isWithin_14 : decode cX2_isWithin 14 = .ok (.iload_n 1, 1) := dk_27 (dk_at dksX2_isWithin_0 14 rfl rfl)
theorem dX2_isWithin_15 : decode cX2_isWithin 15 = .ok (.aload_n 0, 1) := dk_42 (dk_at dksX2_isWithin_0 15 rfl rfl)
theorem dX2_isWithin_16 : decode cX2_isWithin 16 = .ok (.getfield 9, 3) := dk_180 0 9 (dk_at dksX2_isWithin_0 16 rfl rfl)
theorem dX2_isWithin_19 : decode cX2_isWithin 19 = .ok (.iconst 4, 1) := dk_7 (dk_at dksX2_isWithin_0 19 rfl rfl)
theorem dX2_isWithin_20 : decode cX2_isWithin 20 = .ok (.iaload, 1) := dk_46 (dk_at dksX2_isWithin_0 20 rfl rfl)
theorem dX2_isWithin_21 : decode cX2_isWithin 21 = .ok (.invokevirtual 303, 3) := dk_182 1 47 (dk_at dksX2_isWithin_0 21 rfl rfl)
theorem dX2_isWithin_24 : decode cX2_isWithin 24 = .ok (.ldc2_w 316, 3) := dk_20 1 60 (dk_at dksX2_isWithin_1 0 rfl rfl)
theorem dX2_isWithin_27 : decode cX2_isWithin 27 = .ok (.dadd, 1) := dk_99 (dk_at dksX2_isWithin_1 3 rfl rfl)
theorem dX2_isWithin_28 : decode cX2_isWithin 28 = .ok (.dcmp .g, 1) := dk_152 (dk_at dksX2_isWithin_1 4 rfl rfl)
theorem dX2_isWithin_29 : decode cX2_isWithin 29 = .ok (.ifCond .gt 7, 3) := dk_157 0 7 (dk_at dksX2_isWithin_1 5 rfl rfl)
theorem dX2_isWithin_32 : decode cX2_isWithin 32 = .ok (.iconst 1, 1) := dk_4 (dk_at dksX2_isWithin_1 8 rfl rfl)
theorem dX2_isWithin_33 : decode cX2_isWithin 33 = .ok (.goto 4, 3) := dk_167 0 4 (dk_at dksX2_isWithin_1 9 rfl rfl)
theorem dX2_isWithin_36 : decode cX2_isWithin 36 = .ok (.iconst 0, 1) := dk_3 (dk_at dksX2_isWithin_1 12 rfl rfl)
theorem dX2_isWithin_37 : decode cX2_isWithin 37 = .ok (.ireturn, 1) := dk_172 (dk_at dksX2_isWithin_1 13 rfl rfl)
abbrev cX2_worst : ByteArray := prog_10_method_92_code
def yX2_worst : MethodName := ⟨RX2, "worst", "()I"⟩
def dkwX2_worst_2 : List UInt8 := [21, 4, 60, 24, 5, 73, 132, 4, 1, 167, 255, 221, 27, 172]
abbrev dktX2_worst_2 : List UInt8 := dkwX2_worst_2 ++ []
def dkwX2_worst_1 : List UInt8 := [17, 1, 0, 162, 0, 33, 42, 21, 4, 182, 1, 57, 57, 5, 24, 5, 40, 152, 157, 0, 6, 167, 0, 9]
abbrev dktX2_worst_1 : List UInt8 := dkwX2_worst_1 ++ dktX2_worst_2
def dkwX2_worst_0 : List UInt8 := [42, 182, 0, 229, 154, 0, 5, 3, 172, 3, 60, 42, 3, 182, 1, 57, 73, 4, 54, 4, 21, 4]
abbrev dktX2_worst_0 : List UInt8 := dkwX2_worst_0 ++ dktX2_worst_1
theorem dksX2_worst_0 : cX2_worst.data.toList.drop 0 = dktX2_worst_0 := by decide +kernel
theorem dksX2_worst_1 : cX2_worst.data.toList.drop 22 = dktX2_worst_1 := dk_seg dksX2_worst_0 22 rfl rfl
theorem dksX2_worst_2 : cX2_worst.data.toList.drop 46 = dktX2_worst_2 := dk_seg dksX2_worst_1 24 rfl rfl
theorem dX2_worst_0 : decode cX2_worst 0 = .ok (.aload_n 0, 1) := dk_42 (dk_at dksX2_worst_0 0 rfl rfl)
theorem dX2_worst_1 : decode cX2_worst 1 = .ok (.invokevirtual 229, 3) := dk_182 0 229 (dk_at dksX2_worst_0 1 rfl rfl)
theorem dX2_worst_4 : decode cX2_worst 4 = .ok (.ifCond .ne 5, 3) := dk_154 0 5 (dk_at dksX2_worst_0 4 rfl rfl)
theorem dX2_worst_7 : decode cX2_worst 7 = .ok (.iconst 0, 1) := dk_3 (dk_at dksX2_worst_0 7 rfl rfl)
theorem dX2_worst_8 : decode cX2_worst 8 = .ok (.ireturn, 1) := dk_172 (dk_at dksX2_worst_0 8 rfl rfl)
theorem dX2_worst_9 : decode cX2_worst 9 = .ok (.iconst 0, 1) := dk_3 (dk_at dksX2_worst_0 9 rfl rfl)
theorem dX2_worst_10 : decode cX2_worst 10 = .ok (.istore_n 1, 1) := dk_60 (dk_at dksX2_worst_0 10 rfl rfl)
theorem dX2_worst_11 : decode cX2_worst 11 = .ok (.aload_n 0, 1) := dk_42 (dk_at dksX2_worst_0 11 rfl rfl)
theorem dX2_worst_12 : decode cX2_worst 12 = .ok (.iconst 0, 1) := dk_3 (dk_at dksX2_worst_0 12 rfl rfl)
theorem dX2_worst_13 : decode cX2_worst 13 = .ok (.invokevirtual 313, 3) := dk_182 1 57 (dk_at dksX2_worst_0 13 rfl rfl)
theorem dX2_worst_16 : decode cX2_worst 16 = .ok (.dstore_n 2, 1) := dk_73 (dk_at dksX2_worst_0 16 rfl rfl)
theorem dX2_worst_17 : decode cX2_worst 17 = .ok (.iconst 1, 1) := dk_4 (dk_at dksX2_worst_0 17 rfl rfl)
theorem dX2_worst_18 : decode cX2_worst 18 = .ok (.istore 4, 2) := dk_54 4 (dk_at dksX2_worst_0 18 rfl rfl)
theorem dX2_worst_20 : decode cX2_worst 20 = .ok (.iload 4, 2) := dk_21 4 (dk_at dksX2_worst_0 20 rfl rfl)
theorem dX2_worst_22 : decode cX2_worst 22 = .ok (.sipush 256, 3) := dk_17 1 0 (dk_at dksX2_worst_1 0 rfl rfl)
theorem dX2_worst_25 : decode cX2_worst 25 = .ok (.if_icmp .ge 33, 3) := dk_162 0 33 (dk_at dksX2_worst_1 3 rfl rfl)
theorem dX2_worst_28 : decode cX2_worst 28 = .ok (.aload_n 0, 1) := dk_42 (dk_at dksX2_worst_1 6 rfl rfl)
theorem dX2_worst_29 : decode cX2_worst 29 = .ok (.iload 4, 2) := dk_21 4 (dk_at dksX2_worst_1 7 rfl rfl)
theorem dX2_worst_31 : decode cX2_worst 31 = .ok (.invokevirtual 313, 3) := dk_182 1 57 (dk_at dksX2_worst_1 9 rfl rfl)
theorem dX2_worst_34 : decode cX2_worst 34 = .ok (.dstore 5, 2) := dk_57 5 (dk_at dksX2_worst_1 12 rfl rfl)
theorem dX2_worst_36 : decode cX2_worst 36 = .ok (.dload 5, 2) := dk_24 5 (dk_at dksX2_worst_1 14 rfl rfl)
theorem dX2_worst_38 : decode cX2_worst 38 = .ok (.dload_n 2, 1) := dk_40 (dk_at dksX2_worst_1 16 rfl rfl)
theorem dX2_worst_39 : decode cX2_worst 39 = .ok (.dcmp .g, 1) := dk_152 (dk_at dksX2_worst_1 17 rfl rfl)
theorem dX2_worst_40 : decode cX2_worst 40 = .ok (.ifCond .gt 6, 3) := dk_157 0 6 (dk_at dksX2_worst_1 18 rfl rfl)
theorem dX2_worst_43 : decode cX2_worst 43 = .ok (.goto 9, 3) := dk_167 0 9 (dk_at dksX2_worst_1 21 rfl rfl)
theorem dX2_worst_46 : decode cX2_worst 46 = .ok (.iload 4, 2) := dk_21 4 (dk_at dksX2_worst_2 0 rfl rfl)
theorem dX2_worst_48 : decode cX2_worst 48 = .ok (.istore_n 1, 1) := dk_60 (dk_at dksX2_worst_2 2 rfl rfl)
theorem dX2_worst_49 : decode cX2_worst 49 = .ok (.dload 5, 2) := dk_24 5 (dk_at dksX2_worst_2 3 rfl rfl)
theorem dX2_worst_51 : decode cX2_worst 51 = .ok (.dstore_n 2, 1) := dk_73 (dk_at dksX2_worst_2 5 rfl rfl)
theorem dX2_worst_52 : decode cX2_worst 52 = .ok (.iinc 4 1, 3) := dk_132 4 1 (dk_at dksX2_worst_2 6 rfl rfl)
theorem dX2_worst_55 : decode cX2_worst 55 = .ok (.goto (-35), 3) := dk_167 255 221 (dk_at dksX2_worst_2 9 rfl rfl)
theorem dX2_worst_58 : decode cX2_worst 58 = .ok (.iload_n 1, 1) := dk_27 (dk_at dksX2_worst_2 12 rfl rfl)
theorem dX2_worst_59 : decode cX2_worst 59 = .ok (.ireturn, 1) := dk_172 (dk_at dksX2_worst_2 13 rfl rfl)
abbrev cX2_times : ByteArray := prog_10_method_93_code
def yX2_times : MethodName := ⟨RX2, "times", "(DDI)D"⟩
def dkwX2_times_1 : List UInt8 := [167, 255, 240, 24, 5, 175]
abbrev dktX2_times_1 : List UInt8 := dkwX2_times_1 ++ []
def dkwX2_times_0 : List UInt8 := [38, 57, 5, 3, 54, 7, 21, 7, 21, 4, 162, 0, 15, 24, 5, 40, 107, 57, 5, 132, 7, 1]
abbrev dktX2_times_0 : List UInt8 := dkwX2_times_0 ++ dktX2_times_1
theorem dksX2_times_0 : cX2_times.data.toList.drop 0 = dktX2_times_0 := by decide +kernel
theorem dksX2_times_1 : cX2_times.data.toList.drop 22 = dktX2_times_1 := dk_seg dksX2_times_0 22 rfl rfl
theorem dX2_times_0 : decode cX2_times 0 = .ok (.dload_n 0, 1) := dk_38 (dk_at dksX2_times_0 0 rfl rfl)
theorem dX2_times_1 : decode cX2_times 1 = .ok (.dstore 5, 2) := dk_57 5 (dk_at dksX2_times_0 1 rfl rfl)
theorem dX2_times_3 : decode cX2_times 3 = .ok (.iconst 0, 1) := dk_3 (dk_at dksX2_times_0 3 rfl rfl)
theorem dX2_times_4 : decode cX2_times 4 = .ok (.istore 7, 2) := dk_54 7 (dk_at dksX2_times_0 4 rfl rfl)
theorem dX2_times_6 : decode cX2_times 6 = .ok (.iload 7, 2) := dk_21 7 (dk_at dksX2_times_0 6 rfl rfl)
theorem dX2_times_8 : decode cX2_times 8 = .ok (.iload 4, 2) := dk_21 4 (dk_at dksX2_times_0 8 rfl rfl)
theorem dX2_times_10 : decode cX2_times 10 = .ok (.if_icmp .ge 15, 3) := dk_162 0 15 (dk_at dksX2_times_0 10 rfl rfl)
theorem dX2_times_13 : decode cX2_times 13 = .ok (.dload 5, 2) := dk_24 5 (dk_at dksX2_times_0 13 rfl rfl)
theorem dX2_times_15 : decode cX2_times 15 = .ok (.dload_n 2, 1) := dk_40 (dk_at dksX2_times_0 15 rfl rfl)
theorem dX2_times_16 : decode cX2_times 16 = .ok (.dmul, 1) := dk_107 (dk_at dksX2_times_0 16 rfl rfl)
theorem dX2_times_17 : decode cX2_times 17 = .ok (.dstore 5, 2) := dk_57 5 (dk_at dksX2_times_0 17 rfl rfl)
theorem dX2_times_19 : decode cX2_times 19 = .ok (.iinc 7 1, 3) := dk_132 7 1 (dk_at dksX2_times_0 19 rfl rfl)
theorem dX2_times_22 : decode cX2_times 22 = .ok (.goto (-16), 3) := dk_167 255 240 (dk_at dksX2_times_1 0 rfl rfl)
theorem dX2_times_25 : decode cX2_times 25 = .ok (.dload 5, 2) := dk_24 5 (dk_at dksX2_times_1 3 rfl rfl)
theorem dX2_times_27 : decode cX2_times 27 = .ok (.dreturn, 1) := dk_175 (dk_at dksX2_times_1 5 rfl rfl)
abbrev cX2_takesAbove : ByteArray := prog_10_method_94_code
def yX2_takesAbove : MethodName := ⟨RX2, "takesAbove", "(II)V"⟩
def dkwX2_takesAbove_4 : List UInt8 := [177]
abbrev dktX2_takesAbove_4 : List UInt8 := dkwX2_takesAbove_4 ++ []
def dkwX2_takesAbove_3 : List UInt8 := [41, 21, 6, 21, 5, 100, 184, 1, 62, 107, 99, 82, 132, 6, 1, 167, 255, 205, 132, 5, 1, 167, 255, 184]
abbrev dktX2_takesAbove_3 : List UInt8 := dkwX2_takesAbove_3 ++ dktX2_takesAbove_4
def dkwX2_takesAbove_2 : List UInt8 := [180, 0, 44, 21, 5, 92, 49, 21, 6, 21, 5, 184, 0, 250, 135, 42, 180, 0, 48, 21, 6, 49, 107, 15]
abbrev dktX2_takesAbove_2 : List UInt8 := dkwX2_takesAbove_2 ++ dktX2_takesAbove_3
def dkwX2_takesAbove_1 : List UInt8 := [180, 0, 9, 7, 46, 163, 0, 67, 21, 5, 54, 6, 21, 6, 42, 180, 0, 9, 7, 46, 163, 0, 46, 42]
abbrev dktX2_takesAbove_1 : List UInt8 := dkwX2_takesAbove_1 ++ dktX2_takesAbove_2
def dkwX2_takesAbove_0 : List UInt8 := [27, 28, 184, 0, 226, 27, 4, 100, 28, 5, 108, 184, 0, 226, 100, 135, 74, 3, 54, 5, 21, 5, 42]
abbrev dktX2_takesAbove_0 : List UInt8 := dkwX2_takesAbove_0 ++ dktX2_takesAbove_1
theorem dksX2_takesAbove_0 : cX2_takesAbove.data.toList.drop 0 = dktX2_takesAbove_0 := by decide +kernel
theorem dksX2_takesAbove_1 : cX2_takesAbove.data.toList.drop 23 = dktX2_takesAbove_1 := dk_seg dksX2_takesAbove_0 23 rfl rfl
theorem dksX2_takesAbove_2 : cX2_takesAbove.data.toList.drop 47 = dktX2_takesAbove_2 := dk_seg dksX2_takesAbove_1 24 rfl rfl
theorem dksX2_takesAbove_3 : cX2_takesAbove.data.toList.drop 71 = dktX2_takesAbove_3 := dk_seg dksX2_takesAbove_2 24 rfl rfl
theorem dksX2_takesAbove_4 : cX2_takesAbove.data.toList.drop 95 = dktX2_takesAbove_4 := dk_seg dksX2_takesAbove_3 24 rfl rfl
theorem dX2_takesAbove_0 : decode cX2_takesAbove 0 = .ok (.iload_n 1, 1) := dk_27 (dk_at dksX2_takesAbove_0 0 rfl rfl)
theorem dX2_takesAbove_1 : decode cX2_takesAbove 1 = .ok (.iload_n 2, 1) := dk_28 (dk_at dksX2_takesAbove_0 1 rfl rfl)
theorem dX2_takesAbove_2 : decode cX2_takesAbove 2 = .ok (.invokestatic 226, 3) := dk_184 0 226 (dk_at dksX2_takesAbove_0 2 rfl rfl)
theorem dX2_takesAbove_5 : decode cX2_takesAbove 5 = .ok (.iload_n 1, 1) := dk_27 (dk_at dksX2_takesAbove_0 5 rfl rfl)
theorem dX2_takesAbove_6 : decode cX2_takesAbove 6 = .ok (.iconst 1, 1) := dk_4 (dk_at dksX2_takesAbove_0 6 rfl rfl)
theorem dX2_takesAbove_7 : decode cX2_takesAbove 7 = .ok (.isub, 1) := dk_100 (dk_at dksX2_takesAbove_0 7 rfl rfl)
theorem dX2_takesAbove_8 : decode cX2_takesAbove 8 = .ok (.iload_n 2, 1) := dk_28 (dk_at dksX2_takesAbove_0 8 rfl rfl)
theorem dX2_takesAbove_9 : decode cX2_takesAbove 9 = .ok (.iconst 2, 1) := dk_5 (dk_at dksX2_takesAbove_0 9 rfl rfl)
theorem dX2_takesAbove_10 : decode cX2_takesAbove 10 = .ok (.idiv, 1) := dk_108 (dk_at dksX2_takesAbove_0 10 rfl rfl)
theorem dX2_takesAbove_11 : decode cX2_takesAbove 11 = .ok (.invokestatic 226, 3) := dk_184 0 226 (dk_at dksX2_takesAbove_0 11 rfl rfl)
theorem dX2_takesAbove_14 : decode cX2_takesAbove 14 = .ok (.isub, 1) := dk_100 (dk_at dksX2_takesAbove_0 14 rfl rfl)
theorem dX2_takesAbove_15 : decode cX2_takesAbove 15 = .ok (.i2d, 1) := dk_135 (dk_at dksX2_takesAbove_0 15 rfl rfl)
theorem dX2_takesAbove_16 : decode cX2_takesAbove 16 = .ok (.dstore_n 3, 1) := dk_74 (dk_at dksX2_takesAbove_0 16 rfl rfl)
theorem dX2_takesAbove_17 : decode cX2_takesAbove 17 = .ok (.iconst 0, 1) := dk_3 (dk_at dksX2_takesAbove_0 17 rfl rfl)
theorem dX2_takesAbove_18 : decode cX2_takesAbove 18 = .ok (.istore 5, 2) := dk_54 5 (dk_at dksX2_takesAbove_0 18 rfl rfl)
theorem dX2_takesAbove_20 : decode cX2_takesAbove 20 = .ok (.iload 5, 2) := dk_21 5 (dk_at dksX2_takesAbove_0 20 rfl rfl)
theorem dX2_takesAbove_22 : decode cX2_takesAbove 22 = .ok (.aload_n 0, 1) := dk_42 (dk_at dksX2_takesAbove_0 22 rfl rfl)
theorem dX2_takesAbove_23 : decode cX2_takesAbove 23 = .ok (.getfield 9, 3) := dk_180 0 9 (dk_at dksX2_takesAbove_1 0 rfl rfl)
theorem dX2_takesAbove_26 : decode cX2_takesAbove 26 = .ok (.iconst 4, 1) := dk_7 (dk_at dksX2_takesAbove_1 3 rfl rfl)
theorem dX2_takesAbove_27 : decode cX2_takesAbove 27 = .ok (.iaload, 1) := dk_46 (dk_at dksX2_takesAbove_1 4 rfl rfl)
theorem dX2_takesAbove_28 : decode cX2_takesAbove 28 = .ok (.if_icmp .gt 67, 3) := dk_163 0 67 (dk_at dksX2_takesAbove_1 5 rfl rfl)
theorem dX2_takesAbove_31 : decode cX2_takesAbove 31 = .ok (.iload 5, 2) := dk_21 5 (dk_at dksX2_takesAbove_1 8 rfl rfl)
theorem dX2_takesAbove_33 : decode cX2_takesAbove 33 = .ok (.istore 6, 2) := dk_54 6 (dk_at dksX2_takesAbove_1 10 rfl rfl)
theorem dX2_takesAbove_35 : decode cX2_takesAbove 35 = .ok (.iload 6, 2) := dk_21 6 (dk_at dksX2_takesAbove_1 12 rfl rfl)
theorem dX2_takesAbove_37 : decode cX2_takesAbove 37 = .ok (.aload_n 0, 1) := dk_42 (dk_at dksX2_takesAbove_1 14 rfl rfl)
theorem dX2_takesAbove_38 : decode cX2_takesAbove 38 = .ok (.getfield 9, 3) := dk_180 0 9 (dk_at dksX2_takesAbove_1 15 rfl rfl)
theorem dX2_takesAbove_41 : decode cX2_takesAbove 41 = .ok (.iconst 4, 1) := dk_7 (dk_at dksX2_takesAbove_1 18 rfl rfl)
theorem dX2_takesAbove_42 : decode cX2_takesAbove 42 = .ok (.iaload, 1) := dk_46 (dk_at dksX2_takesAbove_1 19 rfl rfl)
theorem dX2_takesAbove_43 : decode cX2_takesAbove 43 = .ok (.if_icmp .gt 46, 3) := dk_163 0 46 (dk_at dksX2_takesAbove_1 20 rfl rfl)
theorem dX2_takesAbove_46 : decode cX2_takesAbove 46 = .ok (.aload_n 0, 1) := dk_42 (dk_at dksX2_takesAbove_1 23 rfl rfl)
theorem dX2_takesAbove_47 : decode cX2_takesAbove 47 = .ok (.getfield 44, 3) := dk_180 0 44 (dk_at dksX2_takesAbove_2 0 rfl rfl)
theorem dX2_takesAbove_50 : decode cX2_takesAbove 50 = .ok (.iload 5, 2) := dk_21 5 (dk_at dksX2_takesAbove_2 3 rfl rfl)
theorem dX2_takesAbove_52 : decode cX2_takesAbove 52 = .ok (.dup2, 1) := dk_92 (dk_at dksX2_takesAbove_2 5 rfl rfl)
theorem dX2_takesAbove_53 : decode cX2_takesAbove 53 = .ok (.daload, 1) := dk_49 (dk_at dksX2_takesAbove_2 6 rfl rfl)
theorem dX2_takesAbove_54 : decode cX2_takesAbove 54 = .ok (.iload 6, 2) := dk_21 6 (dk_at dksX2_takesAbove_2 7 rfl rfl)
theorem dX2_takesAbove_56 : decode cX2_takesAbove 56 = .ok (.iload 5, 2) := dk_21 5 (dk_at dksX2_takesAbove_2 9 rfl rfl)
theorem dX2_takesAbove_58 : decode cX2_takesAbove 58 = .ok (.invokestatic 250, 3) := dk_184 0 250 (dk_at dksX2_takesAbove_2 11 rfl rfl)
theorem dX2_takesAbove_61 : decode cX2_takesAbove 61 = .ok (.i2d, 1) := dk_135 (dk_at dksX2_takesAbove_2 14 rfl rfl)
theorem dX2_takesAbove_62 : decode cX2_takesAbove 62 = .ok (.aload_n 0, 1) := dk_42 (dk_at dksX2_takesAbove_2 15 rfl rfl)
theorem dX2_takesAbove_63 : decode cX2_takesAbove 63 = .ok (.getfield 48, 3) := dk_180 0 48 (dk_at dksX2_takesAbove_2 16 rfl rfl)
theorem dX2_takesAbove_66 : decode cX2_takesAbove 66 = .ok (.iload 6, 2) := dk_21 6 (dk_at dksX2_takesAbove_2 19 rfl rfl)
theorem dX2_takesAbove_68 : decode cX2_takesAbove 68 = .ok (.daload, 1) := dk_49 (dk_at dksX2_takesAbove_2 21 rfl rfl)
theorem dX2_takesAbove_69 : decode cX2_takesAbove 69 = .ok (.dmul, 1) := dk_107 (dk_at dksX2_takesAbove_2 22 rfl rfl)
theorem dX2_takesAbove_70 : decode cX2_takesAbove 70 = .ok (.dconst 1, 1) := dk_15 (dk_at dksX2_takesAbove_2 23 rfl rfl)
theorem dX2_takesAbove_71 : decode cX2_takesAbove 71 = .ok (.dload_n 3, 1) := dk_41 (dk_at dksX2_takesAbove_3 0 rfl rfl)
theorem dX2_takesAbove_72 : decode cX2_takesAbove 72 = .ok (.iload 6, 2) := dk_21 6 (dk_at dksX2_takesAbove_3 1 rfl rfl)
theorem dX2_takesAbove_74 : decode cX2_takesAbove 74 = .ok (.iload 5, 2) := dk_21 5 (dk_at dksX2_takesAbove_3 3 rfl rfl)
theorem dX2_takesAbove_76 : decode cX2_takesAbove 76 = .ok (.isub, 1) := dk_100 (dk_at dksX2_takesAbove_3 5 rfl rfl)
theorem dX2_takesAbove_77 : decode cX2_takesAbove 77 = .ok (.invokestatic 318, 3) := dk_184 1 62 (dk_at dksX2_takesAbove_3 6 rfl rfl)
theorem dX2_takesAbove_80 : decode cX2_takesAbove 80 = .ok (.dmul, 1) := dk_107 (dk_at dksX2_takesAbove_3 9 rfl rfl)
theorem dX2_takesAbove_81 : decode cX2_takesAbove 81 = .ok (.dadd, 1) := dk_99 (dk_at dksX2_takesAbove_3 10 rfl rfl)
theorem dX2_takesAbove_82 : decode cX2_takesAbove 82 = .ok (.dastore, 1) := dk_82 (dk_at dksX2_takesAbove_3 11 rfl rfl)
theorem dX2_takesAbove_83 : decode cX2_takesAbove 83 = .ok (.iinc 6 1, 3) := dk_132 6 1 (dk_at dksX2_takesAbove_3 12 rfl rfl)
theorem dX2_takesAbove_86 : decode cX2_takesAbove 86 = .ok (.goto (-51), 3) := dk_167 255 205 (dk_at dksX2_takesAbove_3 15 rfl rfl)
theorem dX2_takesAbove_89 : decode cX2_takesAbove 89 = .ok (.iinc 5 1, 3) := dk_132 5 1 (dk_at dksX2_takesAbove_3 18 rfl rfl)
theorem dX2_takesAbove_92 : decode cX2_takesAbove 92 = .ok (.goto (-72), 3) := dk_167 255 184 (dk_at dksX2_takesAbove_3 21 rfl rfl)
theorem dX2_takesAbove_95 : decode cX2_takesAbove 95 = .ok (.return_, 1) := dk_177 (dk_at dksX2_takesAbove_4 0 rfl rfl)
abbrev cX2_takesFar : ByteArray := prog_10_method_95_code
def yX2_takesFar : MethodName := ⟨RX2, "takesFar", "(III)V"⟩
def dkwX2_takesFar_6 : List UInt8 := [180, 0, 44, 21, 5, 92, 49, 24, 6, 99, 82, 132, 5, 1, 167, 255, 117, 177]
abbrev dktX2_takesFar_6 : List UInt8 := dkwX2_takesFar_6 ++ []
def dkwX2_takesFar_5 : List UInt8 := [167, 0, 4, 3, 160, 0, 18, 42, 180, 0, 44, 21, 5, 92, 49, 24, 6, 103, 82, 167, 0, 15, 42]
abbrev dktX2_takesFar_5 : List UInt8 := dkwX2_takesFar_5 ++ dktX2_takesFar_6
def dkwX2_takesFar_4 : List UInt8 := [132, 10, 1, 167, 255, 205, 21, 4, 156, 0, 7, 4, 167, 0, 4, 3, 21, 5, 5, 112, 154, 0, 7, 4]
abbrev dktX2_takesFar_4 : List UInt8 := dkwX2_takesFar_4 ++ dktX2_takesFar_5
def dkwX2_takesFar_3 : List UInt8 := [29, 21, 10, 182, 0, 243, 105, 138, 24, 8, 111, 99, 57, 6, 24, 8, 21, 4, 135, 107, 57, 8]
abbrev dktX2_takesFar_3 : List UInt8 := dkwX2_takesFar_3 ++ dktX2_takesFar_4
def dkwX2_takesFar_2 : List UInt8 := [42, 180, 0, 9, 7, 46, 163, 0, 46, 24, 6, 21, 10, 21, 5, 96, 21, 5, 184, 0, 250, 133, 42, 27]
abbrev dktX2_takesFar_2 : List UInt8 := dkwX2_takesFar_2 ++ dktX2_takesFar_3
def dkwX2_takesFar_1 : List UInt8 := [163, 0, 134, 14, 57, 6, 15, 21, 4, 135, 21, 5, 4, 96, 184, 1, 62, 57, 8, 3, 54, 10, 21, 10]
abbrev dktX2_takesFar_1 : List UInt8 := dkwX2_takesFar_1 ++ dktX2_takesFar_2
def dkwX2_takesFar_0 : List UInt8 := [27, 28, 184, 0, 226, 27, 29, 184, 0, 226, 100, 54, 4, 3, 54, 5, 21, 5, 42, 180, 0, 9, 7, 46]
abbrev dktX2_takesFar_0 : List UInt8 := dkwX2_takesFar_0 ++ dktX2_takesFar_1
theorem dksX2_takesFar_0 : cX2_takesFar.data.toList.drop 0 = dktX2_takesFar_0 := by decide +kernel
theorem dksX2_takesFar_1 : cX2_takesFar.data.toList.drop 24 = dktX2_takesFar_1 := dk_seg dksX2_takesFar_0 24 rfl rfl
theorem dksX2_takesFar_2 : cX2_takesFar.data.toList.drop 48 = dktX2_takesFar_2 := dk_seg dksX2_takesFar_1 24 rfl rfl
theorem dksX2_takesFar_3 : cX2_takesFar.data.toList.drop 72 = dktX2_takesFar_3 := dk_seg dksX2_takesFar_2 24 rfl rfl
theorem dksX2_takesFar_4 : cX2_takesFar.data.toList.drop 94 = dktX2_takesFar_4 := dk_seg dksX2_takesFar_3 22 rfl rfl
theorem dksX2_takesFar_5 : cX2_takesFar.data.toList.drop 118 = dktX2_takesFar_5 := dk_seg dksX2_takesFar_4 24 rfl rfl
theorem dksX2_takesFar_6 : cX2_takesFar.data.toList.drop 141 = dktX2_takesFar_6 := dk_seg dksX2_takesFar_5 23 rfl rfl
theorem dX2_takesFar_0 : decode cX2_takesFar 0 = .ok (.iload_n 1, 1) := dk_27 (dk_at dksX2_takesFar_0 0 rfl rfl)
theorem dX2_takesFar_1 : decode cX2_takesFar 1 = .ok (.iload_n 2, 1) := dk_28 (dk_at dksX2_takesFar_0 1 rfl rfl)
theorem dX2_takesFar_2 : decode cX2_takesFar 2 = .ok (.invokestatic 226, 3) := dk_184 0 226 (dk_at dksX2_takesFar_0 2 rfl rfl)
theorem dX2_takesFar_5 : decode cX2_takesFar 5 = .ok (.iload_n 1, 1) := dk_27 (dk_at dksX2_takesFar_0 5 rfl rfl)
theorem dX2_takesFar_6 : decode cX2_takesFar 6 = .ok (.iload_n 3, 1) := dk_29 (dk_at dksX2_takesFar_0 6 rfl rfl)
theorem dX2_takesFar_7 : decode cX2_takesFar 7 = .ok (.invokestatic 226, 3) := dk_184 0 226 (dk_at dksX2_takesFar_0 7 rfl rfl)
theorem dX2_takesFar_10 : decode cX2_takesFar 10 = .ok (.isub, 1) := dk_100 (dk_at dksX2_takesFar_0 10 rfl rfl)
theorem dX2_takesFar_11 : decode cX2_takesFar 11 = .ok (.istore 4, 2) := dk_54 4 (dk_at dksX2_takesFar_0 11 rfl rfl)
theorem dX2_takesFar_13 : decode cX2_takesFar 13 = .ok (.iconst 0, 1) := dk_3 (dk_at dksX2_takesFar_0 13 rfl rfl)
theorem dX2_takesFar_14 : decode cX2_takesFar 14 = .ok (.istore 5, 2) := dk_54 5 (dk_at dksX2_takesFar_0 14 rfl rfl)
theorem dX2_takesFar_16 : decode cX2_takesFar 16 = .ok (.iload 5, 2) := dk_21 5 (dk_at dksX2_takesFar_0 16 rfl rfl)
theorem dX2_takesFar_18 : decode cX2_takesFar 18 = .ok (.aload_n 0, 1) := dk_42 (dk_at dksX2_takesFar_0 18 rfl rfl)
theorem dX2_takesFar_19 : decode cX2_takesFar 19 = .ok (.getfield 9, 3) := dk_180 0 9 (dk_at dksX2_takesFar_0 19 rfl rfl)
theorem dX2_takesFar_22 : decode cX2_takesFar 22 = .ok (.iconst 4, 1) := dk_7 (dk_at dksX2_takesFar_0 22 rfl rfl)
theorem dX2_takesFar_23 : decode cX2_takesFar 23 = .ok (.iaload, 1) := dk_46 (dk_at dksX2_takesFar_0 23 rfl rfl)
theorem dX2_takesFar_24 : decode cX2_takesFar 24 = .ok (.if_icmp .gt 134, 3) := dk_163 0 134 (dk_at dksX2_takesFar_1 0 rfl rfl)
theorem dX2_takesFar_27 : decode cX2_takesFar 27 = .ok (.dconst 0, 1) := dk_14 (dk_at dksX2_takesFar_1 3 rfl rfl)
theorem dX2_takesFar_28 : decode cX2_takesFar 28 = .ok (.dstore 6, 2) := dk_57 6 (dk_at dksX2_takesFar_1 4 rfl rfl)
theorem dX2_takesFar_30 : decode cX2_takesFar 30 = .ok (.dconst 1, 1) := dk_15 (dk_at dksX2_takesFar_1 6 rfl rfl)
theorem dX2_takesFar_31 : decode cX2_takesFar 31 = .ok (.iload 4, 2) := dk_21 4 (dk_at dksX2_takesFar_1 7 rfl rfl)
theorem dX2_takesFar_33 : decode cX2_takesFar 33 = .ok (.i2d, 1) := dk_135 (dk_at dksX2_takesFar_1 9 rfl rfl)
theorem dX2_takesFar_34 : decode cX2_takesFar 34 = .ok (.iload 5, 2) := dk_21 5 (dk_at dksX2_takesFar_1 10 rfl rfl)
theorem dX2_takesFar_36 : decode cX2_takesFar 36 = .ok (.iconst 1, 1) := dk_4 (dk_at dksX2_takesFar_1 12 rfl rfl)
theorem dX2_takesFar_37 : decode cX2_takesFar 37 = .ok (.iadd, 1) := dk_96 (dk_at dksX2_takesFar_1 13 rfl rfl)
theorem dX2_takesFar_38 : decode cX2_takesFar 38 = .ok (.invokestatic 318, 3) := dk_184 1 62 (dk_at dksX2_takesFar_1 14 rfl rfl)
theorem dX2_takesFar_41 : decode cX2_takesFar 41 = .ok (.dstore 8, 2) := dk_57 8 (dk_at dksX2_takesFar_1 17 rfl rfl)
theorem dX2_takesFar_43 : decode cX2_takesFar 43 = .ok (.iconst 0, 1) := dk_3 (dk_at dksX2_takesFar_1 19 rfl rfl)
theorem dX2_takesFar_44 : decode cX2_takesFar 44 = .ok (.istore 10, 2) := dk_54 10 (dk_at dksX2_takesFar_1 20 rfl rfl)
theorem dX2_takesFar_46 : decode cX2_takesFar 46 = .ok (.iload 10, 2) := dk_21 10 (dk_at dksX2_takesFar_1 22 rfl rfl)
theorem dX2_takesFar_48 : decode cX2_takesFar 48 = .ok (.aload_n 0, 1) := dk_42 (dk_at dksX2_takesFar_2 0 rfl rfl)
theorem dX2_takesFar_49 : decode cX2_takesFar 49 = .ok (.getfield 9, 3) := dk_180 0 9 (dk_at dksX2_takesFar_2 1 rfl rfl)
theorem dX2_takesFar_52 : decode cX2_takesFar 52 = .ok (.iconst 4, 1) := dk_7 (dk_at dksX2_takesFar_2 4 rfl rfl)
theorem dX2_takesFar_53 : decode cX2_takesFar 53 = .ok (.iaload, 1) := dk_46 (dk_at dksX2_takesFar_2 5 rfl rfl)
theorem dX2_takesFar_54 : decode cX2_takesFar 54 = .ok (.if_icmp .gt 46, 3) := dk_163 0 46 (dk_at dksX2_takesFar_2 6 rfl rfl)
theorem dX2_takesFar_57 : decode cX2_takesFar 57 = .ok (.dload 6, 2) := dk_24 6 (dk_at dksX2_takesFar_2 9 rfl rfl)
theorem dX2_takesFar_59 : decode cX2_takesFar 59 = .ok (.iload 10, 2) := dk_21 10 (dk_at dksX2_takesFar_2 11 rfl rfl)
theorem dX2_takesFar_61 : decode cX2_takesFar 61 = .ok (.iload 5, 2) := dk_21 5 (dk_at dksX2_takesFar_2 13 rfl rfl)
theorem dX2_takesFar_63 : decode cX2_takesFar 63 = .ok (.iadd, 1) := dk_96 (dk_at dksX2_takesFar_2 15 rfl rfl)
theorem dX2_takesFar_64 : decode cX2_takesFar 64 = .ok (.iload 5, 2) := dk_21 5 (dk_at dksX2_takesFar_2 16 rfl rfl)
theorem dX2_takesFar_66 : decode cX2_takesFar 66 = .ok (.invokestatic 250, 3) := dk_184 0 250 (dk_at dksX2_takesFar_2 18 rfl rfl)
theorem dX2_takesFar_69 : decode cX2_takesFar 69 = .ok (.i2l, 1) := dk_133 (dk_at dksX2_takesFar_2 21 rfl rfl)
theorem dX2_takesFar_70 : decode cX2_takesFar 70 = .ok (.aload_n 0, 1) := dk_42 (dk_at dksX2_takesFar_2 22 rfl rfl)
theorem dX2_takesFar_71 : decode cX2_takesFar 71 = .ok (.iload_n 1, 1) := dk_27 (dk_at dksX2_takesFar_2 23 rfl rfl)
theorem dX2_takesFar_72 : decode cX2_takesFar 72 = .ok (.iload_n 3, 1) := dk_29 (dk_at dksX2_takesFar_3 0 rfl rfl)
theorem dX2_takesFar_73 : decode cX2_takesFar 73 = .ok (.iload 10, 2) := dk_21 10 (dk_at dksX2_takesFar_3 1 rfl rfl)
theorem dX2_takesFar_75 : decode cX2_takesFar 75 = .ok (.invokevirtual 243, 3) := dk_182 0 243 (dk_at dksX2_takesFar_3 3 rfl rfl)
theorem dX2_takesFar_78 : decode cX2_takesFar 78 = .ok (.lmul, 1) := dk_105 (dk_at dksX2_takesFar_3 6 rfl rfl)
theorem dX2_takesFar_79 : decode cX2_takesFar 79 = .ok (.l2d, 1) := dk_138 (dk_at dksX2_takesFar_3 7 rfl rfl)
theorem dX2_takesFar_80 : decode cX2_takesFar 80 = .ok (.dload 8, 2) := dk_24 8 (dk_at dksX2_takesFar_3 8 rfl rfl)
theorem dX2_takesFar_82 : decode cX2_takesFar 82 = .ok (.ddiv, 1) := dk_111 (dk_at dksX2_takesFar_3 10 rfl rfl)
theorem dX2_takesFar_83 : decode cX2_takesFar 83 = .ok (.dadd, 1) := dk_99 (dk_at dksX2_takesFar_3 11 rfl rfl)
theorem dX2_takesFar_84 : decode cX2_takesFar 84 = .ok (.dstore 6, 2) := dk_57 6 (dk_at dksX2_takesFar_3 12 rfl rfl)
theorem dX2_takesFar_86 : decode cX2_takesFar 86 = .ok (.dload 8, 2) := dk_24 8 (dk_at dksX2_takesFar_3 14 rfl rfl)
theorem dX2_takesFar_88 : decode cX2_takesFar 88 = .ok (.iload 4, 2) := dk_21 4 (dk_at dksX2_takesFar_3 16 rfl rfl)
theorem dX2_takesFar_90 : decode cX2_takesFar 90 = .ok (.i2d, 1) := dk_135 (dk_at dksX2_takesFar_3 18 rfl rfl)
theorem dX2_takesFar_91 : decode cX2_takesFar 91 = .ok (.dmul, 1) := dk_107 (dk_at dksX2_takesFar_3 19 rfl rfl)
theorem dX2_takesFar_92 : decode cX2_takesFar 92 = .ok (.dstore 8, 2) := dk_57 8 (dk_at dksX2_takesFar_3 20 rfl rfl)
theorem dX2_takesFar_94 : decode cX2_takesFar 94 = .ok (.iinc 10 1, 3) := dk_132 10 1 (dk_at dksX2_takesFar_4 0 rfl rfl)
theorem dX2_takesFar_97 : decode cX2_takesFar 97 = .ok (.goto (-51), 3) := dk_167 255 205 (dk_at dksX2_takesFar_4 3 rfl rfl)
theorem dX2_takesFar_100 : decode cX2_takesFar 100 = .ok (.iload 4, 2) := dk_21 4 (dk_at dksX2_takesFar_4 6 rfl rfl)
theorem dX2_takesFar_102 : decode cX2_takesFar 102 = .ok (.ifCond .ge 7, 3) := dk_156 0 7 (dk_at dksX2_takesFar_4 8 rfl rfl)
theorem dX2_takesFar_105 : decode cX2_takesFar 105 = .ok (.iconst 1, 1) := dk_4 (dk_at dksX2_takesFar_4 11 rfl rfl)
theorem dX2_takesFar_106 : decode cX2_takesFar 106 = .ok (.goto 4, 3) := dk_167 0 4 (dk_at dksX2_takesFar_4 12 rfl rfl)
theorem dX2_takesFar_109 : decode cX2_takesFar 109 = .ok (.iconst 0, 1) := dk_3 (dk_at dksX2_takesFar_4 15 rfl rfl)
theorem dX2_takesFar_110 : decode cX2_takesFar 110 = .ok (.iload 5, 2) := dk_21 5 (dk_at dksX2_takesFar_4 16 rfl rfl)
theorem dX2_takesFar_112 : decode cX2_takesFar 112 = .ok (.iconst 2, 1) := dk_5 (dk_at dksX2_takesFar_4 18 rfl rfl)
theorem dX2_takesFar_113 : decode cX2_takesFar 113 = .ok (.irem, 1) := dk_112 (dk_at dksX2_takesFar_4 19 rfl rfl)
theorem dX2_takesFar_114 : decode cX2_takesFar 114 = .ok (.ifCond .ne 7, 3) := dk_154 0 7 (dk_at dksX2_takesFar_4 20 rfl rfl)
theorem dX2_takesFar_117 : decode cX2_takesFar 117 = .ok (.iconst 1, 1) := dk_4 (dk_at dksX2_takesFar_4 23 rfl rfl)
theorem dX2_takesFar_118 : decode cX2_takesFar 118 = .ok (.goto 4, 3) := dk_167 0 4 (dk_at dksX2_takesFar_5 0 rfl rfl)
theorem dX2_takesFar_121 : decode cX2_takesFar 121 = .ok (.iconst 0, 1) := dk_3 (dk_at dksX2_takesFar_5 3 rfl rfl)
theorem dX2_takesFar_122 : decode cX2_takesFar 122 = .ok (.if_icmp .ne 18, 3) := dk_160 0 18 (dk_at dksX2_takesFar_5 4 rfl rfl)
theorem dX2_takesFar_125 : decode cX2_takesFar 125 = .ok (.aload_n 0, 1) := dk_42 (dk_at dksX2_takesFar_5 7 rfl rfl)
theorem dX2_takesFar_126 : decode cX2_takesFar 126 = .ok (.getfield 44, 3) := dk_180 0 44 (dk_at dksX2_takesFar_5 8 rfl rfl)
theorem dX2_takesFar_129 : decode cX2_takesFar 129 = .ok (.iload 5, 2) := dk_21 5 (dk_at dksX2_takesFar_5 11 rfl rfl)
theorem dX2_takesFar_131 : decode cX2_takesFar 131 = .ok (.dup2, 1) := dk_92 (dk_at dksX2_takesFar_5 13 rfl rfl)
theorem dX2_takesFar_132 : decode cX2_takesFar 132 = .ok (.daload, 1) := dk_49 (dk_at dksX2_takesFar_5 14 rfl rfl)
theorem dX2_takesFar_133 : decode cX2_takesFar 133 = .ok (.dload 6, 2) := dk_24 6 (dk_at dksX2_takesFar_5 15 rfl rfl)
theorem dX2_takesFar_135 : decode cX2_takesFar 135 = .ok (.dsub, 1) := dk_103 (dk_at dksX2_takesFar_5 17 rfl rfl)
theorem dX2_takesFar_136 : decode cX2_takesFar 136 = .ok (.dastore, 1) := dk_82 (dk_at dksX2_takesFar_5 18 rfl rfl)
theorem dX2_takesFar_137 : decode cX2_takesFar 137 = .ok (.goto 15, 3) := dk_167 0 15 (dk_at dksX2_takesFar_5 19 rfl rfl)
theorem dX2_takesFar_140 : decode cX2_takesFar 140 = .ok (.aload_n 0, 1) := dk_42 (dk_at dksX2_takesFar_5 22 rfl rfl)
theorem dX2_takesFar_141 : decode cX2_takesFar 141 = .ok (.getfield 44, 3) := dk_180 0 44 (dk_at dksX2_takesFar_6 0 rfl rfl)
theorem dX2_takesFar_144 : decode cX2_takesFar 144 = .ok (.iload 5, 2) := dk_21 5 (dk_at dksX2_takesFar_6 3 rfl rfl)
theorem dX2_takesFar_146 : decode cX2_takesFar 146 = .ok (.dup2, 1) := dk_92 (dk_at dksX2_takesFar_6 5 rfl rfl)
theorem dX2_takesFar_147 : decode cX2_takesFar 147 = .ok (.daload, 1) := dk_49 (dk_at dksX2_takesFar_6 6 rfl rfl)
theorem dX2_takesFar_148 : decode cX2_takesFar 148 = .ok (.dload 6, 2) := dk_24 6 (dk_at dksX2_takesFar_6 7 rfl rfl)
theorem dX2_takesFar_150 : decode cX2_takesFar 150 = .ok (.dadd, 1) := dk_99 (dk_at dksX2_takesFar_6 9 rfl rfl)
theorem dX2_takesFar_151 : decode cX2_takesFar 151 = .ok (.dastore, 1) := dk_82 (dk_at dksX2_takesFar_6 10 rfl rfl)
theorem dX2_takesFar_152 : decode cX2_takesFar 152 = .ok (.iinc 5 1, 3) := dk_132 5 1 (dk_at dksX2_takesFar_6 11 rfl rfl)
theorem dX2_takesFar_155 : decode cX2_takesFar 155 = .ok (.goto (-139), 3) := dk_167 255 117 (dk_at dksX2_takesFar_6 14 rfl rfl)
theorem dX2_takesFar_158 : decode cX2_takesFar 158 = .ok (.return_, 1) := dk_177 (dk_at dksX2_takesFar_6 17 rfl rfl)
abbrev cX2_laysLocal : ByteArray := prog_10_method_96_code
def yX2_laysLocal : MethodName := ⟨RX2, "laysLocal", "(II)V"⟩
def dkwX2_laysLocal_6 : List UInt8 := [167, 255, 139, 177]
abbrev dktX2_laysLocal_6 : List UInt8 := dkwX2_laysLocal_6 ++ []
def dkwX2_laysLocal_5 : List UInt8 := [182, 1, 16, 153, 0, 12, 42, 29, 21, 4, 21, 5, 182, 1, 70, 132, 5, 1, 167, 255, 224, 132, 3, 1]
abbrev dktX2_laysLocal_5 : List UInt8 := dkwX2_laysLocal_5 ++ dktX2_laysLocal_6
def dkwX2_laysLocal_4 : List UInt8 := [21, 4, 182, 1, 66, 3, 54, 5, 21, 5, 4, 29, 120, 162, 0, 30, 42, 29, 21, 5, 21, 4]
abbrev dktX2_laysLocal_4 : List UInt8 := dkwX2_laysLocal_4 ++ dktX2_laysLocal_5
def dkwX2_laysLocal_3 : List UInt8 := [163, 0, 17, 42, 180, 0, 44, 21, 5, 14, 82, 132, 5, 1, 167, 255, 239, 29, 5, 164, 0, 10, 42, 29]
abbrev dktX2_laysLocal_3 : List UInt8 := dkwX2_laysLocal_3 ++ dktX2_laysLocal_4
def dkwX2_laysLocal_2 : List UInt8 := [21, 5, 42, 180, 0, 44, 21, 5, 49, 82, 132, 5, 1, 167, 255, 233, 3, 54, 5, 21, 5, 7]
abbrev dktX2_laysLocal_2 : List UInt8 := dkwX2_laysLocal_2 ++ dktX2_laysLocal_3
def dkwX2_laysLocal_1 : List UInt8 := [163, 0, 118, 28, 27, 29, 100, 122, 54, 4, 3, 54, 5, 21, 5, 7, 163, 0, 23, 42, 180, 0, 48]
abbrev dktX2_laysLocal_1 : List UInt8 := dkwX2_laysLocal_1 ++ dktX2_laysLocal_2
def dkwX2_laysLocal_0 : List UInt8 := [3, 62, 29, 7, 163, 0, 16, 42, 180, 0, 44, 29, 14, 82, 132, 3, 1, 167, 255, 241, 5, 62, 29, 27]
abbrev dktX2_laysLocal_0 : List UInt8 := dkwX2_laysLocal_0 ++ dktX2_laysLocal_1
theorem dksX2_laysLocal_0 : cX2_laysLocal.data.toList.drop 0 = dktX2_laysLocal_0 := by decide +kernel
theorem dksX2_laysLocal_1 : cX2_laysLocal.data.toList.drop 24 = dktX2_laysLocal_1 := dk_seg dksX2_laysLocal_0 24 rfl rfl
theorem dksX2_laysLocal_2 : cX2_laysLocal.data.toList.drop 47 = dktX2_laysLocal_2 := dk_seg dksX2_laysLocal_1 23 rfl rfl
theorem dksX2_laysLocal_3 : cX2_laysLocal.data.toList.drop 69 = dktX2_laysLocal_3 := dk_seg dksX2_laysLocal_2 22 rfl rfl
theorem dksX2_laysLocal_4 : cX2_laysLocal.data.toList.drop 93 = dktX2_laysLocal_4 := dk_seg dksX2_laysLocal_3 24 rfl rfl
theorem dksX2_laysLocal_5 : cX2_laysLocal.data.toList.drop 115 = dktX2_laysLocal_5 := dk_seg dksX2_laysLocal_4 22 rfl rfl
theorem dksX2_laysLocal_6 : cX2_laysLocal.data.toList.drop 139 = dktX2_laysLocal_6 := dk_seg dksX2_laysLocal_5 24 rfl rfl
theorem dX2_laysLocal_0 : decode cX2_laysLocal 0 = .ok (.iconst 0, 1) := dk_3 (dk_at dksX2_laysLocal_0 0 rfl rfl)
theorem dX2_laysLocal_1 : decode cX2_laysLocal 1 = .ok (.istore_n 3, 1) := dk_62 (dk_at dksX2_laysLocal_0 1 rfl rfl)
theorem dX2_laysLocal_2 : decode cX2_laysLocal 2 = .ok (.iload_n 3, 1) := dk_29 (dk_at dksX2_laysLocal_0 2 rfl rfl)
theorem dX2_laysLocal_3 : decode cX2_laysLocal 3 = .ok (.iconst 4, 1) := dk_7 (dk_at dksX2_laysLocal_0 3 rfl rfl)
theorem dX2_laysLocal_4 : decode cX2_laysLocal 4 = .ok (.if_icmp .gt 16, 3) := dk_163 0 16 (dk_at dksX2_laysLocal_0 4 rfl rfl)
theorem dX2_laysLocal_7 : decode cX2_laysLocal 7 = .ok (.aload_n 0, 1) := dk_42 (dk_at dksX2_laysLocal_0 7 rfl rfl)
theorem dX2_laysLocal_8 : decode cX2_laysLocal 8 = .ok (.getfield 44, 3) := dk_180 0 44 (dk_at dksX2_laysLocal_0 8 rfl rfl)
theorem dX2_laysLocal_11 : decode cX2_laysLocal 11 = .ok (.iload_n 3, 1) := dk_29 (dk_at dksX2_laysLocal_0 11 rfl rfl)
theorem dX2_laysLocal_12 : decode cX2_laysLocal 12 = .ok (.dconst 0, 1) := dk_14 (dk_at dksX2_laysLocal_0 12 rfl rfl)
theorem dX2_laysLocal_13 : decode cX2_laysLocal 13 = .ok (.dastore, 1) := dk_82 (dk_at dksX2_laysLocal_0 13 rfl rfl)
theorem dX2_laysLocal_14 : decode cX2_laysLocal 14 = .ok (.iinc 3 1, 3) := dk_132 3 1 (dk_at dksX2_laysLocal_0 14 rfl rfl)
theorem dX2_laysLocal_17 : decode cX2_laysLocal 17 = .ok (.goto (-15), 3) := dk_167 255 241 (dk_at dksX2_laysLocal_0 17 rfl rfl)
theorem dX2_laysLocal_20 : decode cX2_laysLocal 20 = .ok (.iconst 2, 1) := dk_5 (dk_at dksX2_laysLocal_0 20 rfl rfl)
theorem dX2_laysLocal_21 : decode cX2_laysLocal 21 = .ok (.istore_n 3, 1) := dk_62 (dk_at dksX2_laysLocal_0 21 rfl rfl)
theorem dX2_laysLocal_22 : decode cX2_laysLocal 22 = .ok (.iload_n 3, 1) := dk_29 (dk_at dksX2_laysLocal_0 22 rfl rfl)
theorem dX2_laysLocal_23 : decode cX2_laysLocal 23 = .ok (.iload_n 1, 1) := dk_27 (dk_at dksX2_laysLocal_0 23 rfl rfl)
theorem dX2_laysLocal_24 : decode cX2_laysLocal 24 = .ok (.if_icmp .gt 118, 3) := dk_163 0 118 (dk_at dksX2_laysLocal_1 0 rfl rfl)
theorem dX2_laysLocal_27 : decode cX2_laysLocal 27 = .ok (.iload_n 2, 1) := dk_28 (dk_at dksX2_laysLocal_1 3 rfl rfl)
theorem dX2_laysLocal_28 : decode cX2_laysLocal 28 = .ok (.iload_n 1, 1) := dk_27 (dk_at dksX2_laysLocal_1 4 rfl rfl)
theorem dX2_laysLocal_29 : decode cX2_laysLocal 29 = .ok (.iload_n 3, 1) := dk_29 (dk_at dksX2_laysLocal_1 5 rfl rfl)
theorem dX2_laysLocal_30 : decode cX2_laysLocal 30 = .ok (.isub, 1) := dk_100 (dk_at dksX2_laysLocal_1 6 rfl rfl)
theorem dX2_laysLocal_31 : decode cX2_laysLocal 31 = .ok (.ishr, 1) := dk_122 (dk_at dksX2_laysLocal_1 7 rfl rfl)
theorem dX2_laysLocal_32 : decode cX2_laysLocal 32 = .ok (.istore 4, 2) := dk_54 4 (dk_at dksX2_laysLocal_1 8 rfl rfl)
theorem dX2_laysLocal_34 : decode cX2_laysLocal 34 = .ok (.iconst 0, 1) := dk_3 (dk_at dksX2_laysLocal_1 10 rfl rfl)
theorem dX2_laysLocal_35 : decode cX2_laysLocal 35 = .ok (.istore 5, 2) := dk_54 5 (dk_at dksX2_laysLocal_1 11 rfl rfl)
theorem dX2_laysLocal_37 : decode cX2_laysLocal 37 = .ok (.iload 5, 2) := dk_21 5 (dk_at dksX2_laysLocal_1 13 rfl rfl)
theorem dX2_laysLocal_39 : decode cX2_laysLocal 39 = .ok (.iconst 4, 1) := dk_7 (dk_at dksX2_laysLocal_1 15 rfl rfl)
theorem dX2_laysLocal_40 : decode cX2_laysLocal 40 = .ok (.if_icmp .gt 23, 3) := dk_163 0 23 (dk_at dksX2_laysLocal_1 16 rfl rfl)
theorem dX2_laysLocal_43 : decode cX2_laysLocal 43 = .ok (.aload_n 0, 1) := dk_42 (dk_at dksX2_laysLocal_1 19 rfl rfl)
theorem dX2_laysLocal_44 : decode cX2_laysLocal 44 = .ok (.getfield 48, 3) := dk_180 0 48 (dk_at dksX2_laysLocal_1 20 rfl rfl)
theorem dX2_laysLocal_47 : decode cX2_laysLocal 47 = .ok (.iload 5, 2) := dk_21 5 (dk_at dksX2_laysLocal_2 0 rfl rfl)
theorem dX2_laysLocal_49 : decode cX2_laysLocal 49 = .ok (.aload_n 0, 1) := dk_42 (dk_at dksX2_laysLocal_2 2 rfl rfl)
theorem dX2_laysLocal_50 : decode cX2_laysLocal 50 = .ok (.getfield 44, 3) := dk_180 0 44 (dk_at dksX2_laysLocal_2 3 rfl rfl)
theorem dX2_laysLocal_53 : decode cX2_laysLocal 53 = .ok (.iload 5, 2) := dk_21 5 (dk_at dksX2_laysLocal_2 6 rfl rfl)
theorem dX2_laysLocal_55 : decode cX2_laysLocal 55 = .ok (.daload, 1) := dk_49 (dk_at dksX2_laysLocal_2 8 rfl rfl)
theorem dX2_laysLocal_56 : decode cX2_laysLocal 56 = .ok (.dastore, 1) := dk_82 (dk_at dksX2_laysLocal_2 9 rfl rfl)
theorem dX2_laysLocal_57 : decode cX2_laysLocal 57 = .ok (.iinc 5 1, 3) := dk_132 5 1 (dk_at dksX2_laysLocal_2 10 rfl rfl)
theorem dX2_laysLocal_60 : decode cX2_laysLocal 60 = .ok (.goto (-23), 3) := dk_167 255 233 (dk_at dksX2_laysLocal_2 13 rfl rfl)
theorem dX2_laysLocal_63 : decode cX2_laysLocal 63 = .ok (.iconst 0, 1) := dk_3 (dk_at dksX2_laysLocal_2 16 rfl rfl)
theorem dX2_laysLocal_64 : decode cX2_laysLocal 64 = .ok (.istore 5, 2) := dk_54 5 (dk_at dksX2_laysLocal_2 17 rfl rfl)
theorem dX2_laysLocal_66 : decode cX2_laysLocal 66 = .ok (.iload 5, 2) := dk_21 5 (dk_at dksX2_laysLocal_2 19 rfl rfl)
theorem dX2_laysLocal_68 : decode cX2_laysLocal 68 = .ok (.iconst 4, 1) := dk_7 (dk_at dksX2_laysLocal_2 21 rfl rfl)
theorem dX2_laysLocal_69 : decode cX2_laysLocal 69 = .ok (.if_icmp .gt 17, 3) := dk_163 0 17 (dk_at dksX2_laysLocal_3 0 rfl rfl)
theorem dX2_laysLocal_72 : decode cX2_laysLocal 72 = .ok (.aload_n 0, 1) := dk_42 (dk_at dksX2_laysLocal_3 3 rfl rfl)
theorem dX2_laysLocal_73 : decode cX2_laysLocal 73 = .ok (.getfield 44, 3) := dk_180 0 44 (dk_at dksX2_laysLocal_3 4 rfl rfl)
theorem dX2_laysLocal_76 : decode cX2_laysLocal 76 = .ok (.iload 5, 2) := dk_21 5 (dk_at dksX2_laysLocal_3 7 rfl rfl)
theorem dX2_laysLocal_78 : decode cX2_laysLocal 78 = .ok (.dconst 0, 1) := dk_14 (dk_at dksX2_laysLocal_3 9 rfl rfl)
theorem dX2_laysLocal_79 : decode cX2_laysLocal 79 = .ok (.dastore, 1) := dk_82 (dk_at dksX2_laysLocal_3 10 rfl rfl)
theorem dX2_laysLocal_80 : decode cX2_laysLocal 80 = .ok (.iinc 5 1, 3) := dk_132 5 1 (dk_at dksX2_laysLocal_3 11 rfl rfl)
theorem dX2_laysLocal_83 : decode cX2_laysLocal 83 = .ok (.goto (-17), 3) := dk_167 255 239 (dk_at dksX2_laysLocal_3 14 rfl rfl)
theorem dX2_laysLocal_86 : decode cX2_laysLocal 86 = .ok (.iload_n 3, 1) := dk_29 (dk_at dksX2_laysLocal_3 17 rfl rfl)
theorem dX2_laysLocal_87 : decode cX2_laysLocal 87 = .ok (.iconst 2, 1) := dk_5 (dk_at dksX2_laysLocal_3 18 rfl rfl)
theorem dX2_laysLocal_88 : decode cX2_laysLocal 88 = .ok (.if_icmp .le 10, 3) := dk_164 0 10 (dk_at dksX2_laysLocal_3 19 rfl rfl)
theorem dX2_laysLocal_91 : decode cX2_laysLocal 91 = .ok (.aload_n 0, 1) := dk_42 (dk_at dksX2_laysLocal_3 22 rfl rfl)
theorem dX2_laysLocal_92 : decode cX2_laysLocal 92 = .ok (.iload_n 3, 1) := dk_29 (dk_at dksX2_laysLocal_3 23 rfl rfl)
theorem dX2_laysLocal_93 : decode cX2_laysLocal 93 = .ok (.iload 4, 2) := dk_21 4 (dk_at dksX2_laysLocal_4 0 rfl rfl)
theorem dX2_laysLocal_95 : decode cX2_laysLocal 95 = .ok (.invokevirtual 322, 3) := dk_182 1 66 (dk_at dksX2_laysLocal_4 2 rfl rfl)
theorem dX2_laysLocal_98 : decode cX2_laysLocal 98 = .ok (.iconst 0, 1) := dk_3 (dk_at dksX2_laysLocal_4 5 rfl rfl)
theorem dX2_laysLocal_99 : decode cX2_laysLocal 99 = .ok (.istore 5, 2) := dk_54 5 (dk_at dksX2_laysLocal_4 6 rfl rfl)
theorem dX2_laysLocal_101 : decode cX2_laysLocal 101 = .ok (.iload 5, 2) := dk_21 5 (dk_at dksX2_laysLocal_4 8 rfl rfl)
theorem dX2_laysLocal_103 : decode cX2_laysLocal 103 = .ok (.iconst 1, 1) := dk_4 (dk_at dksX2_laysLocal_4 10 rfl rfl)
theorem dX2_laysLocal_104 : decode cX2_laysLocal 104 = .ok (.iload_n 3, 1) := dk_29 (dk_at dksX2_laysLocal_4 11 rfl rfl)
theorem dX2_laysLocal_105 : decode cX2_laysLocal 105 = .ok (.ishl, 1) := dk_120 (dk_at dksX2_laysLocal_4 12 rfl rfl)
theorem dX2_laysLocal_106 : decode cX2_laysLocal 106 = .ok (.if_icmp .ge 30, 3) := dk_162 0 30 (dk_at dksX2_laysLocal_4 13 rfl rfl)
theorem dX2_laysLocal_109 : decode cX2_laysLocal 109 = .ok (.aload_n 0, 1) := dk_42 (dk_at dksX2_laysLocal_4 16 rfl rfl)
theorem dX2_laysLocal_110 : decode cX2_laysLocal 110 = .ok (.iload_n 3, 1) := dk_29 (dk_at dksX2_laysLocal_4 17 rfl rfl)
theorem dX2_laysLocal_111 : decode cX2_laysLocal 111 = .ok (.iload 5, 2) := dk_21 5 (dk_at dksX2_laysLocal_4 18 rfl rfl)
theorem dX2_laysLocal_113 : decode cX2_laysLocal 113 = .ok (.iload 4, 2) := dk_21 4 (dk_at dksX2_laysLocal_4 20 rfl rfl)
theorem dX2_laysLocal_115 : decode cX2_laysLocal 115 = .ok (.invokevirtual 272, 3) := dk_182 1 16 (dk_at dksX2_laysLocal_5 0 rfl rfl)
theorem dX2_laysLocal_118 : decode cX2_laysLocal 118 = .ok (.ifCond .eq 12, 3) := dk_153 0 12 (dk_at dksX2_laysLocal_5 3 rfl rfl)
theorem dX2_laysLocal_121 : decode cX2_laysLocal 121 = .ok (.aload_n 0, 1) := dk_42 (dk_at dksX2_laysLocal_5 6 rfl rfl)
theorem dX2_laysLocal_122 : decode cX2_laysLocal 122 = .ok (.iload_n 3, 1) := dk_29 (dk_at dksX2_laysLocal_5 7 rfl rfl)
theorem dX2_laysLocal_123 : decode cX2_laysLocal 123 = .ok (.iload 4, 2) := dk_21 4 (dk_at dksX2_laysLocal_5 8 rfl rfl)
theorem dX2_laysLocal_125 : decode cX2_laysLocal 125 = .ok (.iload 5, 2) := dk_21 5 (dk_at dksX2_laysLocal_5 10 rfl rfl)
theorem dX2_laysLocal_127 : decode cX2_laysLocal 127 = .ok (.invokevirtual 326, 3) := dk_182 1 70 (dk_at dksX2_laysLocal_5 12 rfl rfl)
theorem dX2_laysLocal_130 : decode cX2_laysLocal 130 = .ok (.iinc 5 1, 3) := dk_132 5 1 (dk_at dksX2_laysLocal_5 15 rfl rfl)
theorem dX2_laysLocal_133 : decode cX2_laysLocal 133 = .ok (.goto (-32), 3) := dk_167 255 224 (dk_at dksX2_laysLocal_5 18 rfl rfl)
theorem dX2_laysLocal_136 : decode cX2_laysLocal 136 = .ok (.iinc 3 1, 3) := dk_132 3 1 (dk_at dksX2_laysLocal_5 21 rfl rfl)
theorem dX2_laysLocal_139 : decode cX2_laysLocal 139 = .ok (.goto (-117), 3) := dk_167 255 139 (dk_at dksX2_laysLocal_6 0 rfl rfl)
theorem dX2_laysLocal_142 : decode cX2_laysLocal 142 = .ok (.return_, 1) := dk_177 (dk_at dksX2_laysLocal_6 3 rfl rfl)
abbrev cX2_localEntry : ByteArray := prog_10_method_97_code
def yX2_localEntry : MethodName := ⟨RX2, "localEntry", "(III)D"⟩
def dkwX2_localEntry_2 : List UInt8 := [182, 1, 73, 42, 180, 0, 44, 29, 49, 175]
abbrev dktX2_localEntry_2 : List UInt8 := dkwX2_localEntry_2 ++ []
def dkwX2_localEntry_1 : List UInt8 := [29, 3, 42, 180, 0, 9, 7, 46, 184, 0, 77, 182, 0, 60, 154, 0, 5, 14, 175, 42, 27, 28]
abbrev dktX2_localEntry_1 : List UInt8 := dkwX2_localEntry_1 ++ dktX2_localEntry_2
def dkwX2_localEntry_0 : List UInt8 := [42, 42, 180, 0, 156, 27, 5, 161, 0, 16, 42, 27, 28, 182, 0, 222, 153, 0, 7, 4, 167, 0, 4, 3]
abbrev dktX2_localEntry_0 : List UInt8 := dkwX2_localEntry_0 ++ dktX2_localEntry_1
theorem dksX2_localEntry_0 : cX2_localEntry.data.toList.drop 0 = dktX2_localEntry_0 := by decide +kernel
theorem dksX2_localEntry_1 : cX2_localEntry.data.toList.drop 24 = dktX2_localEntry_1 := dk_seg dksX2_localEntry_0 24 rfl rfl
theorem dksX2_localEntry_2 : cX2_localEntry.data.toList.drop 46 = dktX2_localEntry_2 := dk_seg dksX2_localEntry_1 22 rfl rfl
theorem dX2_localEntry_0 : decode cX2_localEntry 0 = .ok (.aload_n 0, 1) := dk_42 (dk_at dksX2_localEntry_0 0 rfl rfl)
theorem dX2_localEntry_1 : decode cX2_localEntry 1 = .ok (.aload_n 0, 1) := dk_42 (dk_at dksX2_localEntry_0 1 rfl rfl)
theorem dX2_localEntry_2 : decode cX2_localEntry 2 = .ok (.getfield 156, 3) := dk_180 0 156 (dk_at dksX2_localEntry_0 2 rfl rfl)
theorem dX2_localEntry_5 : decode cX2_localEntry 5 = .ok (.iload_n 1, 1) := dk_27 (dk_at dksX2_localEntry_0 5 rfl rfl)
theorem dX2_localEntry_6 : decode cX2_localEntry 6 = .ok (.iconst 2, 1) := dk_5 (dk_at dksX2_localEntry_0 6 rfl rfl)
theorem dX2_localEntry_7 : decode cX2_localEntry 7 = .ok (.if_icmp .lt 16, 3) := dk_161 0 16 (dk_at dksX2_localEntry_0 7 rfl rfl)
theorem dX2_localEntry_10 : decode cX2_localEntry 10 = .ok (.aload_n 0, 1) := dk_42 (dk_at dksX2_localEntry_0 10 rfl rfl)
theorem dX2_localEntry_11 : decode cX2_localEntry 11 = .ok (.iload_n 1, 1) := dk_27 (dk_at dksX2_localEntry_0 11 rfl rfl)
theorem dX2_localEntry_12 : decode cX2_localEntry 12 = .ok (.iload_n 2, 1) := dk_28 (dk_at dksX2_localEntry_0 12 rfl rfl)
theorem dX2_localEntry_13 : decode cX2_localEntry 13 = .ok (.invokevirtual 222, 3) := dk_182 0 222 (dk_at dksX2_localEntry_0 13 rfl rfl)
theorem dX2_localEntry_16 : decode cX2_localEntry 16 = .ok (.ifCond .eq 7, 3) := dk_153 0 7 (dk_at dksX2_localEntry_0 16 rfl rfl)
theorem dX2_localEntry_19 : decode cX2_localEntry 19 = .ok (.iconst 1, 1) := dk_4 (dk_at dksX2_localEntry_0 19 rfl rfl)
theorem dX2_localEntry_20 : decode cX2_localEntry 20 = .ok (.goto 4, 3) := dk_167 0 4 (dk_at dksX2_localEntry_0 20 rfl rfl)
theorem dX2_localEntry_23 : decode cX2_localEntry 23 = .ok (.iconst 0, 1) := dk_3 (dk_at dksX2_localEntry_0 23 rfl rfl)
theorem dX2_localEntry_24 : decode cX2_localEntry 24 = .ok (.iload_n 3, 1) := dk_29 (dk_at dksX2_localEntry_1 0 rfl rfl)
theorem dX2_localEntry_25 : decode cX2_localEntry 25 = .ok (.iconst 0, 1) := dk_3 (dk_at dksX2_localEntry_1 1 rfl rfl)
theorem dX2_localEntry_26 : decode cX2_localEntry 26 = .ok (.aload_n 0, 1) := dk_42 (dk_at dksX2_localEntry_1 2 rfl rfl)
theorem dX2_localEntry_27 : decode cX2_localEntry 27 = .ok (.getfield 9, 3) := dk_180 0 9 (dk_at dksX2_localEntry_1 3 rfl rfl)
theorem dX2_localEntry_30 : decode cX2_localEntry 30 = .ok (.iconst 4, 1) := dk_7 (dk_at dksX2_localEntry_1 6 rfl rfl)
theorem dX2_localEntry_31 : decode cX2_localEntry 31 = .ok (.iaload, 1) := dk_46 (dk_at dksX2_localEntry_1 7 rfl rfl)
theorem dX2_localEntry_32 : decode cX2_localEntry 32 = .ok (.invokestatic 77, 3) := dk_184 0 77 (dk_at dksX2_localEntry_1 8 rfl rfl)
theorem dX2_localEntry_35 : decode cX2_localEntry 35 = .ok (.invokevirtual 60, 3) := dk_182 0 60 (dk_at dksX2_localEntry_1 11 rfl rfl)
theorem dX2_localEntry_38 : decode cX2_localEntry 38 = .ok (.ifCond .ne 5, 3) := dk_154 0 5 (dk_at dksX2_localEntry_1 14 rfl rfl)
theorem dX2_localEntry_41 : decode cX2_localEntry 41 = .ok (.dconst 0, 1) := dk_14 (dk_at dksX2_localEntry_1 17 rfl rfl)
theorem dX2_localEntry_42 : decode cX2_localEntry 42 = .ok (.dreturn, 1) := dk_175 (dk_at dksX2_localEntry_1 18 rfl rfl)
theorem dX2_localEntry_43 : decode cX2_localEntry 43 = .ok (.aload_n 0, 1) := dk_42 (dk_at dksX2_localEntry_1 19 rfl rfl)
theorem dX2_localEntry_44 : decode cX2_localEntry 44 = .ok (.iload_n 1, 1) := dk_27 (dk_at dksX2_localEntry_1 20 rfl rfl)
theorem dX2_localEntry_45 : decode cX2_localEntry 45 = .ok (.iload_n 2, 1) := dk_28 (dk_at dksX2_localEntry_1 21 rfl rfl)
theorem dX2_localEntry_46 : decode cX2_localEntry 46 = .ok (.invokevirtual 329, 3) := dk_182 1 73 (dk_at dksX2_localEntry_2 0 rfl rfl)
theorem dX2_localEntry_49 : decode cX2_localEntry 49 = .ok (.aload_n 0, 1) := dk_42 (dk_at dksX2_localEntry_2 3 rfl rfl)
theorem dX2_localEntry_50 : decode cX2_localEntry 50 = .ok (.getfield 44, 3) := dk_180 0 44 (dk_at dksX2_localEntry_2 4 rfl rfl)
theorem dX2_localEntry_53 : decode cX2_localEntry 53 = .ok (.iload_n 3, 1) := dk_29 (dk_at dksX2_localEntry_2 7 rfl rfl)
theorem dX2_localEntry_54 : decode cX2_localEntry 54 = .ok (.daload, 1) := dk_49 (dk_at dksX2_localEntry_2 8 rfl rfl)
theorem dX2_localEntry_55 : decode cX2_localEntry 55 = .ok (.dreturn, 1) := dk_175 (dk_at dksX2_localEntry_2 9 rfl rfl)
abbrev cX2_localSum : ByteArray := prog_10_method_98_code
def yX2_localSum : MethodName := ⟨RX2, "localSum", "(I)D"⟩
def dkwX2_localSum_3 : List UInt8 := [135, 21, 5, 184, 1, 62, 107, 99, 74, 132, 5, 1, 167, 255, 212, 41, 175]
abbrev dktX2_localSum_3 : List UInt8 := dkwX2_localSum_3 ++ []
def dkwX2_localSum_2 : List UInt8 := [163, 0, 39, 41, 42, 180, 0, 44, 21, 5, 49, 15, 27, 42, 180, 0, 9, 6, 46, 28, 184, 0, 226, 100]
abbrev dktX2_localSum_2 : List UInt8 := dkwX2_localSum_2 ++ dktX2_localSum_3
def dkwX2_localSum_1 : List UInt8 := [180, 0, 9, 6, 46, 28, 182, 1, 73, 14, 74, 3, 54, 5, 21, 5, 42, 180, 0, 9, 7, 46]
abbrev dktX2_localSum_1 : List UInt8 := dkwX2_localSum_1 ++ dktX2_localSum_2
def dkwX2_localSum_0 : List UInt8 := [42, 27, 182, 0, 216, 154, 0, 5, 14, 175, 42, 180, 0, 9, 6, 46, 27, 184, 0, 178, 61, 42, 42]
abbrev dktX2_localSum_0 : List UInt8 := dkwX2_localSum_0 ++ dktX2_localSum_1
theorem dksX2_localSum_0 : cX2_localSum.data.toList.drop 0 = dktX2_localSum_0 := by decide +kernel
theorem dksX2_localSum_1 : cX2_localSum.data.toList.drop 23 = dktX2_localSum_1 := dk_seg dksX2_localSum_0 23 rfl rfl
theorem dksX2_localSum_2 : cX2_localSum.data.toList.drop 45 = dktX2_localSum_2 := dk_seg dksX2_localSum_1 22 rfl rfl
theorem dksX2_localSum_3 : cX2_localSum.data.toList.drop 69 = dktX2_localSum_3 := dk_seg dksX2_localSum_2 24 rfl rfl
theorem dX2_localSum_0 : decode cX2_localSum 0 = .ok (.aload_n 0, 1) := dk_42 (dk_at dksX2_localSum_0 0 rfl rfl)
theorem dX2_localSum_1 : decode cX2_localSum 1 = .ok (.iload_n 1, 1) := dk_27 (dk_at dksX2_localSum_0 1 rfl rfl)
theorem dX2_localSum_2 : decode cX2_localSum 2 = .ok (.invokevirtual 216, 3) := dk_182 0 216 (dk_at dksX2_localSum_0 2 rfl rfl)
theorem dX2_localSum_5 : decode cX2_localSum 5 = .ok (.ifCond .ne 5, 3) := dk_154 0 5 (dk_at dksX2_localSum_0 5 rfl rfl)
theorem dX2_localSum_8 : decode cX2_localSum 8 = .ok (.dconst 0, 1) := dk_14 (dk_at dksX2_localSum_0 8 rfl rfl)
theorem dX2_localSum_9 : decode cX2_localSum 9 = .ok (.dreturn, 1) := dk_175 (dk_at dksX2_localSum_0 9 rfl rfl)
theorem dX2_localSum_10 : decode cX2_localSum 10 = .ok (.aload_n 0, 1) := dk_42 (dk_at dksX2_localSum_0 10 rfl rfl)
theorem dX2_localSum_11 : decode cX2_localSum 11 = .ok (.getfield 9, 3) := dk_180 0 9 (dk_at dksX2_localSum_0 11 rfl rfl)
theorem dX2_localSum_14 : decode cX2_localSum 14 = .ok (.iconst 3, 1) := dk_6 (dk_at dksX2_localSum_0 14 rfl rfl)
theorem dX2_localSum_15 : decode cX2_localSum 15 = .ok (.iaload, 1) := dk_46 (dk_at dksX2_localSum_0 15 rfl rfl)
theorem dX2_localSum_16 : decode cX2_localSum 16 = .ok (.iload_n 1, 1) := dk_27 (dk_at dksX2_localSum_0 16 rfl rfl)
theorem dX2_localSum_17 : decode cX2_localSum 17 = .ok (.invokestatic 178, 3) := dk_184 0 178 (dk_at dksX2_localSum_0 17 rfl rfl)
theorem dX2_localSum_20 : decode cX2_localSum 20 = .ok (.istore_n 2, 1) := dk_61 (dk_at dksX2_localSum_0 20 rfl rfl)
theorem dX2_localSum_21 : decode cX2_localSum 21 = .ok (.aload_n 0, 1) := dk_42 (dk_at dksX2_localSum_0 21 rfl rfl)
theorem dX2_localSum_22 : decode cX2_localSum 22 = .ok (.aload_n 0, 1) := dk_42 (dk_at dksX2_localSum_0 22 rfl rfl)
theorem dX2_localSum_23 : decode cX2_localSum 23 = .ok (.getfield 9, 3) := dk_180 0 9 (dk_at dksX2_localSum_1 0 rfl rfl)
theorem dX2_localSum_26 : decode cX2_localSum 26 = .ok (.iconst 3, 1) := dk_6 (dk_at dksX2_localSum_1 3 rfl rfl)
theorem dX2_localSum_27 : decode cX2_localSum 27 = .ok (.iaload, 1) := dk_46 (dk_at dksX2_localSum_1 4 rfl rfl)
theorem dX2_localSum_28 : decode cX2_localSum 28 = .ok (.iload_n 2, 1) := dk_28 (dk_at dksX2_localSum_1 5 rfl rfl)
theorem dX2_localSum_29 : decode cX2_localSum 29 = .ok (.invokevirtual 329, 3) := dk_182 1 73 (dk_at dksX2_localSum_1 6 rfl rfl)
theorem dX2_localSum_32 : decode cX2_localSum 32 = .ok (.dconst 0, 1) := dk_14 (dk_at dksX2_localSum_1 9 rfl rfl)
theorem dX2_localSum_33 : decode cX2_localSum 33 = .ok (.dstore_n 3, 1) := dk_74 (dk_at dksX2_localSum_1 10 rfl rfl)
theorem dX2_localSum_34 : decode cX2_localSum 34 = .ok (.iconst 0, 1) := dk_3 (dk_at dksX2_localSum_1 11 rfl rfl)
theorem dX2_localSum_35 : decode cX2_localSum 35 = .ok (.istore 5, 2) := dk_54 5 (dk_at dksX2_localSum_1 12 rfl rfl)
theorem dX2_localSum_37 : decode cX2_localSum 37 = .ok (.iload 5, 2) := dk_21 5 (dk_at dksX2_localSum_1 14 rfl rfl)
theorem dX2_localSum_39 : decode cX2_localSum 39 = .ok (.aload_n 0, 1) := dk_42 (dk_at dksX2_localSum_1 16 rfl rfl)
theorem dX2_localSum_40 : decode cX2_localSum 40 = .ok (.getfield 9, 3) := dk_180 0 9 (dk_at dksX2_localSum_1 17 rfl rfl)
theorem dX2_localSum_43 : decode cX2_localSum 43 = .ok (.iconst 4, 1) := dk_7 (dk_at dksX2_localSum_1 20 rfl rfl)
theorem dX2_localSum_44 : decode cX2_localSum 44 = .ok (.iaload, 1) := dk_46 (dk_at dksX2_localSum_1 21 rfl rfl)
theorem dX2_localSum_45 : decode cX2_localSum 45 = .ok (.if_icmp .gt 39, 3) := dk_163 0 39 (dk_at dksX2_localSum_2 0 rfl rfl)
theorem dX2_localSum_48 : decode cX2_localSum 48 = .ok (.dload_n 3, 1) := dk_41 (dk_at dksX2_localSum_2 3 rfl rfl)
theorem dX2_localSum_49 : decode cX2_localSum 49 = .ok (.aload_n 0, 1) := dk_42 (dk_at dksX2_localSum_2 4 rfl rfl)
theorem dX2_localSum_50 : decode cX2_localSum 50 = .ok (.getfield 44, 3) := dk_180 0 44 (dk_at dksX2_localSum_2 5 rfl rfl)
theorem dX2_localSum_53 : decode cX2_localSum 53 = .ok (.iload 5, 2) := dk_21 5 (dk_at dksX2_localSum_2 8 rfl rfl)
theorem dX2_localSum_55 : decode cX2_localSum 55 = .ok (.daload, 1) := dk_49 (dk_at dksX2_localSum_2 10 rfl rfl)
theorem dX2_localSum_56 : decode cX2_localSum 56 = .ok (.dconst 1, 1) := dk_15 (dk_at dksX2_localSum_2 11 rfl rfl)
theorem dX2_localSum_57 : decode cX2_localSum 57 = .ok (.iload_n 1, 1) := dk_27 (dk_at dksX2_localSum_2 12 rfl rfl)
theorem dX2_localSum_58 : decode cX2_localSum 58 = .ok (.aload_n 0, 1) := dk_42 (dk_at dksX2_localSum_2 13 rfl rfl)
theorem dX2_localSum_59 : decode cX2_localSum 59 = .ok (.getfield 9, 3) := dk_180 0 9 (dk_at dksX2_localSum_2 14 rfl rfl)
theorem dX2_localSum_62 : decode cX2_localSum 62 = .ok (.iconst 3, 1) := dk_6 (dk_at dksX2_localSum_2 17 rfl rfl)
theorem dX2_localSum_63 : decode cX2_localSum 63 = .ok (.iaload, 1) := dk_46 (dk_at dksX2_localSum_2 18 rfl rfl)
theorem dX2_localSum_64 : decode cX2_localSum 64 = .ok (.iload_n 2, 1) := dk_28 (dk_at dksX2_localSum_2 19 rfl rfl)
theorem dX2_localSum_65 : decode cX2_localSum 65 = .ok (.invokestatic 226, 3) := dk_184 0 226 (dk_at dksX2_localSum_2 20 rfl rfl)
theorem dX2_localSum_68 : decode cX2_localSum 68 = .ok (.isub, 1) := dk_100 (dk_at dksX2_localSum_2 23 rfl rfl)
theorem dX2_localSum_69 : decode cX2_localSum 69 = .ok (.i2d, 1) := dk_135 (dk_at dksX2_localSum_3 0 rfl rfl)
theorem dX2_localSum_70 : decode cX2_localSum 70 = .ok (.iload 5, 2) := dk_21 5 (dk_at dksX2_localSum_3 1 rfl rfl)
theorem dX2_localSum_72 : decode cX2_localSum 72 = .ok (.invokestatic 318, 3) := dk_184 1 62 (dk_at dksX2_localSum_3 3 rfl rfl)
theorem dX2_localSum_75 : decode cX2_localSum 75 = .ok (.dmul, 1) := dk_107 (dk_at dksX2_localSum_3 6 rfl rfl)
theorem dX2_localSum_76 : decode cX2_localSum 76 = .ok (.dadd, 1) := dk_99 (dk_at dksX2_localSum_3 7 rfl rfl)
theorem dX2_localSum_77 : decode cX2_localSum 77 = .ok (.dstore_n 3, 1) := dk_74 (dk_at dksX2_localSum_3 8 rfl rfl)
theorem dX2_localSum_78 : decode cX2_localSum 78 = .ok (.iinc 5 1, 3) := dk_132 5 1 (dk_at dksX2_localSum_3 9 rfl rfl)
theorem dX2_localSum_81 : decode cX2_localSum 81 = .ok (.goto (-44), 3) := dk_167 255 212 (dk_at dksX2_localSum_3 12 rfl rfl)
theorem dX2_localSum_84 : decode cX2_localSum 84 = .ok (.dload_n 3, 1) := dk_41 (dk_at dksX2_localSum_3 15 rfl rfl)
theorem dX2_localSum_85 : decode cX2_localSum 85 = .ok (.dreturn, 1) := dk_175 (dk_at dksX2_localSum_3 16 rfl rfl)
abbrev cX2_pullOf : ByteArray := prog_10_method_99_code
def yX2_pullOf : MethodName := ⟨RX2, "pullOf", "(IZ)D"⟩
def dkwX2_pullOf_4 : List UInt8 := [167, 255, 167, 41, 175]
abbrev dktX2_pullOf_4 : List UInt8 := dkwX2_pullOf_4 ++ []
def dkwX2_pullOf_3 : List UInt8 := [182, 0, 163, 27, 164, 0, 10, 41, 24, 7, 99, 167, 0, 7, 41, 24, 7, 103, 74, 132, 5, 1]
abbrev dktX2_pullOf_3 : List UInt8 := dkwX2_pullOf_3 ++ dktX2_pullOf_4
def dkwX2_pullOf_2 : List UInt8 := [167, 0, 43, 42, 21, 5, 4, 182, 0, 163, 135, 21, 6, 21, 6, 104, 135, 111, 57, 7, 42, 21, 5, 3]
abbrev dktX2_pullOf_2 : List UInt8 := dkwX2_pullOf_2 ++ dktX2_pullOf_3
def dkwX2_pullOf_1 : List UInt8 := [184, 0, 187, 54, 6, 21, 6, 153, 0, 60, 28, 154, 0, 16, 42, 21, 5, 27, 182, 1, 7, 154, 0, 6]
abbrev dktX2_pullOf_1 : List UInt8 := dkwX2_pullOf_1 ++ dktX2_pullOf_2
def dkwX2_pullOf_0 : List UInt8 := [14, 74, 3, 54, 5, 21, 5, 42, 180, 0, 9, 3, 46, 162, 0, 84, 42, 21, 5, 3, 182, 0, 163, 27]
abbrev dktX2_pullOf_0 : List UInt8 := dkwX2_pullOf_0 ++ dktX2_pullOf_1
theorem dksX2_pullOf_0 : cX2_pullOf.data.toList.drop 0 = dktX2_pullOf_0 := by decide +kernel
theorem dksX2_pullOf_1 : cX2_pullOf.data.toList.drop 24 = dktX2_pullOf_1 := dk_seg dksX2_pullOf_0 24 rfl rfl
theorem dksX2_pullOf_2 : cX2_pullOf.data.toList.drop 48 = dktX2_pullOf_2 := dk_seg dksX2_pullOf_1 24 rfl rfl
theorem dksX2_pullOf_3 : cX2_pullOf.data.toList.drop 72 = dktX2_pullOf_3 := dk_seg dksX2_pullOf_2 24 rfl rfl
theorem dksX2_pullOf_4 : cX2_pullOf.data.toList.drop 94 = dktX2_pullOf_4 := dk_seg dksX2_pullOf_3 22 rfl rfl
theorem dX2_pullOf_0 : decode cX2_pullOf 0 = .ok (.dconst 0, 1) := dk_14 (dk_at dksX2_pullOf_0 0 rfl rfl)
theorem dX2_pullOf_1 : decode cX2_pullOf 1 = .ok (.dstore_n 3, 1) := dk_74 (dk_at dksX2_pullOf_0 1 rfl rfl)
theorem dX2_pullOf_2 : decode cX2_pullOf 2 = .ok (.iconst 0, 1) := dk_3 (dk_at dksX2_pullOf_0 2 rfl rfl)
theorem dX2_pullOf_3 : decode cX2_pullOf 3 = .ok (.istore 5, 2) := dk_54 5 (dk_at dksX2_pullOf_0 3 rfl rfl)
theorem dX2_pullOf_5 : decode cX2_pullOf 5 = .ok (.iload 5, 2) := dk_21 5 (dk_at dksX2_pullOf_0 5 rfl rfl)
theorem dX2_pullOf_7 : decode cX2_pullOf 7 = .ok (.aload_n 0, 1) := dk_42 (dk_at dksX2_pullOf_0 7 rfl rfl)
theorem dX2_pullOf_8 : decode cX2_pullOf 8 = .ok (.getfield 9, 3) := dk_180 0 9 (dk_at dksX2_pullOf_0 8 rfl rfl)
theorem dX2_pullOf_11 : decode cX2_pullOf 11 = .ok (.iconst 0, 1) := dk_3 (dk_at dksX2_pullOf_0 11 rfl rfl)
theorem dX2_pullOf_12 : decode cX2_pullOf 12 = .ok (.iaload, 1) := dk_46 (dk_at dksX2_pullOf_0 12 rfl rfl)
theorem dX2_pullOf_13 : decode cX2_pullOf 13 = .ok (.if_icmp .ge 84, 3) := dk_162 0 84 (dk_at dksX2_pullOf_0 13 rfl rfl)
theorem dX2_pullOf_16 : decode cX2_pullOf 16 = .ok (.aload_n 0, 1) := dk_42 (dk_at dksX2_pullOf_0 16 rfl rfl)
theorem dX2_pullOf_17 : decode cX2_pullOf 17 = .ok (.iload 5, 2) := dk_21 5 (dk_at dksX2_pullOf_0 17 rfl rfl)
theorem dX2_pullOf_19 : decode cX2_pullOf 19 = .ok (.iconst 0, 1) := dk_3 (dk_at dksX2_pullOf_0 19 rfl rfl)
theorem dX2_pullOf_20 : decode cX2_pullOf 20 = .ok (.invokevirtual 163, 3) := dk_182 0 163 (dk_at dksX2_pullOf_0 20 rfl rfl)
theorem dX2_pullOf_23 : decode cX2_pullOf 23 = .ok (.iload_n 1, 1) := dk_27 (dk_at dksX2_pullOf_0 23 rfl rfl)
theorem dX2_pullOf_24 : decode cX2_pullOf 24 = .ok (.invokestatic 187, 3) := dk_184 0 187 (dk_at dksX2_pullOf_1 0 rfl rfl)
theorem dX2_pullOf_27 : decode cX2_pullOf 27 = .ok (.istore 6, 2) := dk_54 6 (dk_at dksX2_pullOf_1 3 rfl rfl)
theorem dX2_pullOf_29 : decode cX2_pullOf 29 = .ok (.iload 6, 2) := dk_21 6 (dk_at dksX2_pullOf_1 5 rfl rfl)
theorem dX2_pullOf_31 : decode cX2_pullOf 31 = .ok (.ifCond .eq 60, 3) := dk_153 0 60 (dk_at dksX2_pullOf_1 7 rfl rfl)
theorem dX2_pullOf_34 : decode cX2_pullOf 34 = .ok (.iload_n 2, 1) := dk_28 (dk_at dksX2_pullOf_1 10 rfl rfl)
theorem dX2_pullOf_35 : decode cX2_pullOf 35 = .ok (.ifCond .ne 16, 3) := dk_154 0 16 (dk_at dksX2_pullOf_1 11 rfl rfl)
theorem dX2_pullOf_38 : decode cX2_pullOf 38 = .ok (.aload_n 0, 1) := dk_42 (dk_at dksX2_pullOf_1 14 rfl rfl)
theorem dX2_pullOf_39 : decode cX2_pullOf 39 = .ok (.iload 5, 2) := dk_21 5 (dk_at dksX2_pullOf_1 15 rfl rfl)
theorem dX2_pullOf_41 : decode cX2_pullOf 41 = .ok (.iload_n 1, 1) := dk_27 (dk_at dksX2_pullOf_1 17 rfl rfl)
theorem dX2_pullOf_42 : decode cX2_pullOf 42 = .ok (.invokevirtual 263, 3) := dk_182 1 7 (dk_at dksX2_pullOf_1 18 rfl rfl)
theorem dX2_pullOf_45 : decode cX2_pullOf 45 = .ok (.ifCond .ne 6, 3) := dk_154 0 6 (dk_at dksX2_pullOf_1 21 rfl rfl)
theorem dX2_pullOf_48 : decode cX2_pullOf 48 = .ok (.goto 43, 3) := dk_167 0 43 (dk_at dksX2_pullOf_2 0 rfl rfl)
theorem dX2_pullOf_51 : decode cX2_pullOf 51 = .ok (.aload_n 0, 1) := dk_42 (dk_at dksX2_pullOf_2 3 rfl rfl)
theorem dX2_pullOf_52 : decode cX2_pullOf 52 = .ok (.iload 5, 2) := dk_21 5 (dk_at dksX2_pullOf_2 4 rfl rfl)
theorem dX2_pullOf_54 : decode cX2_pullOf 54 = .ok (.iconst 1, 1) := dk_4 (dk_at dksX2_pullOf_2 6 rfl rfl)
theorem dX2_pullOf_55 : decode cX2_pullOf 55 = .ok (.invokevirtual 163, 3) := dk_182 0 163 (dk_at dksX2_pullOf_2 7 rfl rfl)
theorem dX2_pullOf_58 : decode cX2_pullOf 58 = .ok (.i2d, 1) := dk_135 (dk_at dksX2_pullOf_2 10 rfl rfl)
theorem dX2_pullOf_59 : decode cX2_pullOf 59 = .ok (.iload 6, 2) := dk_21 6 (dk_at dksX2_pullOf_2 11 rfl rfl)
theorem dX2_pullOf_61 : decode cX2_pullOf 61 = .ok (.iload 6, 2) := dk_21 6 (dk_at dksX2_pullOf_2 13 rfl rfl)
theorem dX2_pullOf_63 : decode cX2_pullOf 63 = .ok (.imul, 1) := dk_104 (dk_at dksX2_pullOf_2 15 rfl rfl)
theorem dX2_pullOf_64 : decode cX2_pullOf 64 = .ok (.i2d, 1) := dk_135 (dk_at dksX2_pullOf_2 16 rfl rfl)
theorem dX2_pullOf_65 : decode cX2_pullOf 65 = .ok (.ddiv, 1) := dk_111 (dk_at dksX2_pullOf_2 17 rfl rfl)
theorem dX2_pullOf_66 : decode cX2_pullOf 66 = .ok (.dstore 7, 2) := dk_57 7 (dk_at dksX2_pullOf_2 18 rfl rfl)
theorem dX2_pullOf_68 : decode cX2_pullOf 68 = .ok (.aload_n 0, 1) := dk_42 (dk_at dksX2_pullOf_2 20 rfl rfl)
theorem dX2_pullOf_69 : decode cX2_pullOf 69 = .ok (.iload 5, 2) := dk_21 5 (dk_at dksX2_pullOf_2 21 rfl rfl)
theorem dX2_pullOf_71 : decode cX2_pullOf 71 = .ok (.iconst 0, 1) := dk_3 (dk_at dksX2_pullOf_2 23 rfl rfl)
theorem dX2_pullOf_72 : decode cX2_pullOf 72 = .ok (.invokevirtual 163, 3) := dk_182 0 163 (dk_at dksX2_pullOf_3 0 rfl rfl)
theorem dX2_pullOf_75 : decode cX2_pullOf 75 = .ok (.iload_n 1, 1) := dk_27 (dk_at dksX2_pullOf_3 3 rfl rfl)
theorem dX2_pullOf_76 : decode cX2_pullOf 76 = .ok (.if_icmp .le 10, 3) := dk_164 0 10 (dk_at dksX2_pullOf_3 4 rfl rfl)
theorem dX2_pullOf_79 : decode cX2_pullOf 79 = .ok (.dload_n 3, 1) := dk_41 (dk_at dksX2_pullOf_3 7 rfl rfl)
theorem dX2_pullOf_80 : decode cX2_pullOf 80 = .ok (.dload 7, 2) := dk_24 7 (dk_at dksX2_pullOf_3 8 rfl rfl)
theorem dX2_pullOf_82 : decode cX2_pullOf 82 = .ok (.dadd, 1) := dk_99 (dk_at dksX2_pullOf_3 10 rfl rfl)
theorem dX2_pullOf_83 : decode cX2_pullOf 83 = .ok (.goto 7, 3) := dk_167 0 7 (dk_at dksX2_pullOf_3 11 rfl rfl)
theorem dX2_pullOf_86 : decode cX2_pullOf 86 = .ok (.dload_n 3, 1) := dk_41 (dk_at dksX2_pullOf_3 14 rfl rfl)
theorem dX2_pullOf_87 : decode cX2_pullOf 87 = .ok (.dload 7, 2) := dk_24 7 (dk_at dksX2_pullOf_3 15 rfl rfl)
theorem dX2_pullOf_89 : decode cX2_pullOf 89 = .ok (.dsub, 1) := dk_103 (dk_at dksX2_pullOf_3 17 rfl rfl)
theorem dX2_pullOf_90 : decode cX2_pullOf 90 = .ok (.dstore_n 3, 1) := dk_74 (dk_at dksX2_pullOf_3 18 rfl rfl)
theorem dX2_pullOf_91 : decode cX2_pullOf 91 = .ok (.iinc 5 1, 3) := dk_132 5 1 (dk_at dksX2_pullOf_3 19 rfl rfl)
theorem dX2_pullOf_94 : decode cX2_pullOf 94 = .ok (.goto (-89), 3) := dk_167 255 167 (dk_at dksX2_pullOf_4 0 rfl rfl)
theorem dX2_pullOf_97 : decode cX2_pullOf 97 = .ok (.dload_n 3, 1) := dk_41 (dk_at dksX2_pullOf_4 3 rfl rfl)
theorem dX2_pullOf_98 : decode cX2_pullOf 98 = .ok (.dreturn, 1) := dk_175 (dk_at dksX2_pullOf_4 4 rfl rfl)
abbrev cX2_pullPlain : ByteArray := prog_10_method_103_code
def yX2_pullPlain : MethodName := ⟨RX2, "pullPlain", "(I)D"⟩
def dkwX2_pullPlain_0 : List UInt8 := [42, 27, 182, 0, 216, 153, 0, 12, 42, 27, 4, 182, 1, 79, 167, 0, 4, 14, 175]
abbrev dktX2_pullPlain_0 : List UInt8 := dkwX2_pullPlain_0 ++ []
theorem dksX2_pullPlain_0 : cX2_pullPlain.data.toList.drop 0 = dktX2_pullPlain_0 := by decide +kernel
theorem dX2_pullPlain_0 : decode cX2_pullPlain 0 = .ok (.aload_n 0, 1) := dk_42 (dk_at dksX2_pullPlain_0 0 rfl rfl)
theorem dX2_pullPlain_1 : decode cX2_pullPlain 1 = .ok (.iload_n 1, 1) := dk_27 (dk_at dksX2_pullPlain_0 1 rfl rfl)
theorem dX2_pullPlain_2 : decode cX2_pullPlain 2 = .ok (.invokevirtual 216, 3) := dk_182 0 216 (dk_at dksX2_pullPlain_0 2 rfl rfl)
theorem dX2_pullPlain_5 : decode cX2_pullPlain 5 = .ok (.ifCond .eq 12, 3) := dk_153 0 12 (dk_at dksX2_pullPlain_0 5 rfl rfl)
theorem dX2_pullPlain_8 : decode cX2_pullPlain 8 = .ok (.aload_n 0, 1) := dk_42 (dk_at dksX2_pullPlain_0 8 rfl rfl)
theorem dX2_pullPlain_9 : decode cX2_pullPlain 9 = .ok (.iload_n 1, 1) := dk_27 (dk_at dksX2_pullPlain_0 9 rfl rfl)
theorem dX2_pullPlain_10 : decode cX2_pullPlain 10 = .ok (.iconst 1, 1) := dk_4 (dk_at dksX2_pullPlain_0 10 rfl rfl)
theorem dX2_pullPlain_11 : decode cX2_pullPlain 11 = .ok (.invokevirtual 335, 3) := dk_182 1 79 (dk_at dksX2_pullPlain_0 11 rfl rfl)
theorem dX2_pullPlain_14 : decode cX2_pullPlain 14 = .ok (.goto 4, 3) := dk_167 0 4 (dk_at dksX2_pullPlain_0 14 rfl rfl)
theorem dX2_pullPlain_17 : decode cX2_pullPlain 17 = .ok (.dconst 0, 1) := dk_14 (dk_at dksX2_pullPlain_0 17 rfl rfl)
theorem dX2_pullPlain_18 : decode cX2_pullPlain 18 = .ok (.dreturn, 1) := dk_175 (dk_at dksX2_pullPlain_0 18 rfl rfl)
abbrev cX2_pullBy : ByteArray := prog_10_method_100_code
def yX2_pullBy : MethodName := ⟨RX2, "pullBy", "(III)D"⟩
def dkwX2_pullBy_2 : List UInt8 := [57, 4, 24, 6, 29, 135, 107, 57, 6, 132, 8, 1, 167, 255, 212, 24, 4, 175]
abbrev dktX2_pullBy_2 : List UInt8 := dkwX2_pullBy_2 ++ []
def dkwX2_pullBy_1 : List UInt8 := [163, 0, 39, 24, 4, 21, 8, 4, 96, 133, 42, 27, 28, 21, 8, 182, 0, 243, 105, 138, 24, 6, 111, 99]
abbrev dktX2_pullBy_1 : List UInt8 := dkwX2_pullBy_1 ++ dktX2_pullBy_2
def dkwX2_pullBy_0 : List UInt8 := [14, 57, 4, 15, 29, 135, 5, 184, 1, 62, 57, 6, 3, 54, 8, 21, 8, 42, 180, 0, 9, 7, 46]
abbrev dktX2_pullBy_0 : List UInt8 := dkwX2_pullBy_0 ++ dktX2_pullBy_1
theorem dksX2_pullBy_0 : cX2_pullBy.data.toList.drop 0 = dktX2_pullBy_0 := by decide +kernel
theorem dksX2_pullBy_1 : cX2_pullBy.data.toList.drop 23 = dktX2_pullBy_1 := dk_seg dksX2_pullBy_0 23 rfl rfl
theorem dksX2_pullBy_2 : cX2_pullBy.data.toList.drop 47 = dktX2_pullBy_2 := dk_seg dksX2_pullBy_1 24 rfl rfl
theorem dX2_pullBy_0 : decode cX2_pullBy 0 = .ok (.dconst 0, 1) := dk_14 (dk_at dksX2_pullBy_0 0 rfl rfl)
theorem dX2_pullBy_1 : decode cX2_pullBy 1 = .ok (.dstore 4, 2) := dk_57 4 (dk_at dksX2_pullBy_0 1 rfl rfl)
theorem dX2_pullBy_3 : decode cX2_pullBy 3 = .ok (.dconst 1, 1) := dk_15 (dk_at dksX2_pullBy_0 3 rfl rfl)
theorem dX2_pullBy_4 : decode cX2_pullBy 4 = .ok (.iload_n 3, 1) := dk_29 (dk_at dksX2_pullBy_0 4 rfl rfl)
theorem dX2_pullBy_5 : decode cX2_pullBy 5 = .ok (.i2d, 1) := dk_135 (dk_at dksX2_pullBy_0 5 rfl rfl)
theorem dX2_pullBy_6 : decode cX2_pullBy 6 = .ok (.iconst 2, 1) := dk_5 (dk_at dksX2_pullBy_0 6 rfl rfl)
theorem dX2_pullBy_7 : decode cX2_pullBy 7 = .ok (.invokestatic 318, 3) := dk_184 1 62 (dk_at dksX2_pullBy_0 7 rfl rfl)
theorem dX2_pullBy_10 : decode cX2_pullBy 10 = .ok (.dstore 6, 2) := dk_57 6 (dk_at dksX2_pullBy_0 10 rfl rfl)
theorem dX2_pullBy_12 : decode cX2_pullBy 12 = .ok (.iconst 0, 1) := dk_3 (dk_at dksX2_pullBy_0 12 rfl rfl)
theorem dX2_pullBy_13 : decode cX2_pullBy 13 = .ok (.istore 8, 2) := dk_54 8 (dk_at dksX2_pullBy_0 13 rfl rfl)
theorem dX2_pullBy_15 : decode cX2_pullBy 15 = .ok (.iload 8, 2) := dk_21 8 (dk_at dksX2_pullBy_0 15 rfl rfl)
theorem dX2_pullBy_17 : decode cX2_pullBy 17 = .ok (.aload_n 0, 1) := dk_42 (dk_at dksX2_pullBy_0 17 rfl rfl)
theorem dX2_pullBy_18 : decode cX2_pullBy 18 = .ok (.getfield 9, 3) := dk_180 0 9 (dk_at dksX2_pullBy_0 18 rfl rfl)
theorem dX2_pullBy_21 : decode cX2_pullBy 21 = .ok (.iconst 4, 1) := dk_7 (dk_at dksX2_pullBy_0 21 rfl rfl)
theorem dX2_pullBy_22 : decode cX2_pullBy 22 = .ok (.iaload, 1) := dk_46 (dk_at dksX2_pullBy_0 22 rfl rfl)
theorem dX2_pullBy_23 : decode cX2_pullBy 23 = .ok (.if_icmp .gt 39, 3) := dk_163 0 39 (dk_at dksX2_pullBy_1 0 rfl rfl)
theorem dX2_pullBy_26 : decode cX2_pullBy 26 = .ok (.dload 4, 2) := dk_24 4 (dk_at dksX2_pullBy_1 3 rfl rfl)
theorem dX2_pullBy_28 : decode cX2_pullBy 28 = .ok (.iload 8, 2) := dk_21 8 (dk_at dksX2_pullBy_1 5 rfl rfl)
theorem dX2_pullBy_30 : decode cX2_pullBy 30 = .ok (.iconst 1, 1) := dk_4 (dk_at dksX2_pullBy_1 7 rfl rfl)
theorem dX2_pullBy_31 : decode cX2_pullBy 31 = .ok (.iadd, 1) := dk_96 (dk_at dksX2_pullBy_1 8 rfl rfl)
theorem dX2_pullBy_32 : decode cX2_pullBy 32 = .ok (.i2l, 1) := dk_133 (dk_at dksX2_pullBy_1 9 rfl rfl)
theorem dX2_pullBy_33 : decode cX2_pullBy 33 = .ok (.aload_n 0, 1) := dk_42 (dk_at dksX2_pullBy_1 10 rfl rfl)
theorem dX2_pullBy_34 : decode cX2_pullBy 34 = .ok (.iload_n 1, 1) := dk_27 (dk_at dksX2_pullBy_1 11 rfl rfl)
theorem dX2_pullBy_35 : decode cX2_pullBy 35 = .ok (.iload_n 2, 1) := dk_28 (dk_at dksX2_pullBy_1 12 rfl rfl)
theorem dX2_pullBy_36 : decode cX2_pullBy 36 = .ok (.iload 8, 2) := dk_21 8 (dk_at dksX2_pullBy_1 13 rfl rfl)
theorem dX2_pullBy_38 : decode cX2_pullBy 38 = .ok (.invokevirtual 243, 3) := dk_182 0 243 (dk_at dksX2_pullBy_1 15 rfl rfl)
theorem dX2_pullBy_41 : decode cX2_pullBy 41 = .ok (.lmul, 1) := dk_105 (dk_at dksX2_pullBy_1 18 rfl rfl)
theorem dX2_pullBy_42 : decode cX2_pullBy 42 = .ok (.l2d, 1) := dk_138 (dk_at dksX2_pullBy_1 19 rfl rfl)
theorem dX2_pullBy_43 : decode cX2_pullBy 43 = .ok (.dload 6, 2) := dk_24 6 (dk_at dksX2_pullBy_1 20 rfl rfl)
theorem dX2_pullBy_45 : decode cX2_pullBy 45 = .ok (.ddiv, 1) := dk_111 (dk_at dksX2_pullBy_1 22 rfl rfl)
theorem dX2_pullBy_46 : decode cX2_pullBy 46 = .ok (.dadd, 1) := dk_99 (dk_at dksX2_pullBy_1 23 rfl rfl)
theorem dX2_pullBy_47 : decode cX2_pullBy 47 = .ok (.dstore 4, 2) := dk_57 4 (dk_at dksX2_pullBy_2 0 rfl rfl)
theorem dX2_pullBy_49 : decode cX2_pullBy 49 = .ok (.dload 6, 2) := dk_24 6 (dk_at dksX2_pullBy_2 2 rfl rfl)
theorem dX2_pullBy_51 : decode cX2_pullBy 51 = .ok (.iload_n 3, 1) := dk_29 (dk_at dksX2_pullBy_2 4 rfl rfl)
theorem dX2_pullBy_52 : decode cX2_pullBy 52 = .ok (.i2d, 1) := dk_135 (dk_at dksX2_pullBy_2 5 rfl rfl)
theorem dX2_pullBy_53 : decode cX2_pullBy 53 = .ok (.dmul, 1) := dk_107 (dk_at dksX2_pullBy_2 6 rfl rfl)
theorem dX2_pullBy_54 : decode cX2_pullBy 54 = .ok (.dstore 6, 2) := dk_57 6 (dk_at dksX2_pullBy_2 7 rfl rfl)
theorem dX2_pullBy_56 : decode cX2_pullBy 56 = .ok (.iinc 8 1, 3) := dk_132 8 1 (dk_at dksX2_pullBy_2 9 rfl rfl)
theorem dX2_pullBy_59 : decode cX2_pullBy 59 = .ok (.goto (-44), 3) := dk_167 255 212 (dk_at dksX2_pullBy_2 12 rfl rfl)
theorem dX2_pullBy_62 : decode cX2_pullBy 62 = .ok (.dload 4, 2) := dk_24 4 (dk_at dksX2_pullBy_2 15 rfl rfl)
theorem dX2_pullBy_64 : decode cX2_pullBy 64 = .ok (.dreturn, 1) := dk_175 (dk_at dksX2_pullBy_2 17 rfl rfl)
abbrev cX2_farPull : ByteArray := prog_10_method_101_code
def yX2_farPull : MethodName := ⟨RX2, "farPull", "(I)D"⟩
def dkwX2_farPull_3 : List UInt8 := [167, 0, 7, 40, 24, 6, 99, 73, 132, 4, 1, 167, 255, 184, 40, 175]
abbrev dktX2_farPull_3 : List UInt8 := dkwX2_farPull_3 ++ []
def dkwX2_farPull_2 : List UInt8 := [42, 180, 0, 41, 21, 4, 46, 21, 5, 182, 1, 76, 57, 6, 21, 5, 158, 0, 10, 40, 24, 6, 103]
abbrev dktX2_farPull_2 : List UInt8 := dkwX2_farPull_2 ++ dktX2_farPull_3
def dkwX2_farPull_1 : List UInt8 := [21, 4, 46, 42, 180, 0, 41, 21, 4, 46, 184, 0, 226, 100, 54, 5, 42, 42, 180, 0, 38, 21, 4, 46]
abbrev dktX2_farPull_1 : List UInt8 := dkwX2_farPull_1 ++ dktX2_farPull_2
def dkwX2_farPull_0 : List UInt8 := [42, 27, 182, 1, 19, 14, 73, 3, 54, 4, 21, 4, 42, 180, 1, 13, 162, 0, 69, 27, 42, 180, 0, 38]
abbrev dktX2_farPull_0 : List UInt8 := dkwX2_farPull_0 ++ dktX2_farPull_1
theorem dksX2_farPull_0 : cX2_farPull.data.toList.drop 0 = dktX2_farPull_0 := by decide +kernel
theorem dksX2_farPull_1 : cX2_farPull.data.toList.drop 24 = dktX2_farPull_1 := dk_seg dksX2_farPull_0 24 rfl rfl
theorem dksX2_farPull_2 : cX2_farPull.data.toList.drop 48 = dktX2_farPull_2 := dk_seg dksX2_farPull_1 24 rfl rfl
theorem dksX2_farPull_3 : cX2_farPull.data.toList.drop 71 = dktX2_farPull_3 := dk_seg dksX2_farPull_2 23 rfl rfl
theorem dX2_farPull_0 : decode cX2_farPull 0 = .ok (.aload_n 0, 1) := dk_42 (dk_at dksX2_farPull_0 0 rfl rfl)
theorem dX2_farPull_1 : decode cX2_farPull 1 = .ok (.iload_n 1, 1) := dk_27 (dk_at dksX2_farPull_0 1 rfl rfl)
theorem dX2_farPull_2 : decode cX2_farPull 2 = .ok (.invokevirtual 275, 3) := dk_182 1 19 (dk_at dksX2_farPull_0 2 rfl rfl)
theorem dX2_farPull_5 : decode cX2_farPull 5 = .ok (.dconst 0, 1) := dk_14 (dk_at dksX2_farPull_0 5 rfl rfl)
theorem dX2_farPull_6 : decode cX2_farPull 6 = .ok (.dstore_n 2, 1) := dk_73 (dk_at dksX2_farPull_0 6 rfl rfl)
theorem dX2_farPull_7 : decode cX2_farPull 7 = .ok (.iconst 0, 1) := dk_3 (dk_at dksX2_farPull_0 7 rfl rfl)
theorem dX2_farPull_8 : decode cX2_farPull 8 = .ok (.istore 4, 2) := dk_54 4 (dk_at dksX2_farPull_0 8 rfl rfl)
theorem dX2_farPull_10 : decode cX2_farPull 10 = .ok (.iload 4, 2) := dk_21 4 (dk_at dksX2_farPull_0 10 rfl rfl)
theorem dX2_farPull_12 : decode cX2_farPull 12 = .ok (.aload_n 0, 1) := dk_42 (dk_at dksX2_farPull_0 12 rfl rfl)
theorem dX2_farPull_13 : decode cX2_farPull 13 = .ok (.getfield 269, 3) := dk_180 1 13 (dk_at dksX2_farPull_0 13 rfl rfl)
theorem dX2_farPull_16 : decode cX2_farPull 16 = .ok (.if_icmp .ge 69, 3) := dk_162 0 69 (dk_at dksX2_farPull_0 16 rfl rfl)
theorem dX2_farPull_19 : decode cX2_farPull 19 = .ok (.iload_n 1, 1) := dk_27 (dk_at dksX2_farPull_0 19 rfl rfl)
theorem dX2_farPull_20 : decode cX2_farPull 20 = .ok (.aload_n 0, 1) := dk_42 (dk_at dksX2_farPull_0 20 rfl rfl)
theorem dX2_farPull_21 : decode cX2_farPull 21 = .ok (.getfield 38, 3) := dk_180 0 38 (dk_at dksX2_farPull_0 21 rfl rfl)
theorem dX2_farPull_24 : decode cX2_farPull 24 = .ok (.iload 4, 2) := dk_21 4 (dk_at dksX2_farPull_1 0 rfl rfl)
theorem dX2_farPull_26 : decode cX2_farPull 26 = .ok (.iaload, 1) := dk_46 (dk_at dksX2_farPull_1 2 rfl rfl)
theorem dX2_farPull_27 : decode cX2_farPull 27 = .ok (.aload_n 0, 1) := dk_42 (dk_at dksX2_farPull_1 3 rfl rfl)
theorem dX2_farPull_28 : decode cX2_farPull 28 = .ok (.getfield 41, 3) := dk_180 0 41 (dk_at dksX2_farPull_1 4 rfl rfl)
theorem dX2_farPull_31 : decode cX2_farPull 31 = .ok (.iload 4, 2) := dk_21 4 (dk_at dksX2_farPull_1 7 rfl rfl)
theorem dX2_farPull_33 : decode cX2_farPull 33 = .ok (.iaload, 1) := dk_46 (dk_at dksX2_farPull_1 9 rfl rfl)
theorem dX2_farPull_34 : decode cX2_farPull 34 = .ok (.invokestatic 226, 3) := dk_184 0 226 (dk_at dksX2_farPull_1 10 rfl rfl)
theorem dX2_farPull_37 : decode cX2_farPull 37 = .ok (.isub, 1) := dk_100 (dk_at dksX2_farPull_1 13 rfl rfl)
theorem dX2_farPull_38 : decode cX2_farPull 38 = .ok (.istore 5, 2) := dk_54 5 (dk_at dksX2_farPull_1 14 rfl rfl)
theorem dX2_farPull_40 : decode cX2_farPull 40 = .ok (.aload_n 0, 1) := dk_42 (dk_at dksX2_farPull_1 16 rfl rfl)
theorem dX2_farPull_41 : decode cX2_farPull 41 = .ok (.aload_n 0, 1) := dk_42 (dk_at dksX2_farPull_1 17 rfl rfl)
theorem dX2_farPull_42 : decode cX2_farPull 42 = .ok (.getfield 38, 3) := dk_180 0 38 (dk_at dksX2_farPull_1 18 rfl rfl)
theorem dX2_farPull_45 : decode cX2_farPull 45 = .ok (.iload 4, 2) := dk_21 4 (dk_at dksX2_farPull_1 21 rfl rfl)
theorem dX2_farPull_47 : decode cX2_farPull 47 = .ok (.iaload, 1) := dk_46 (dk_at dksX2_farPull_1 23 rfl rfl)
theorem dX2_farPull_48 : decode cX2_farPull 48 = .ok (.aload_n 0, 1) := dk_42 (dk_at dksX2_farPull_2 0 rfl rfl)
theorem dX2_farPull_49 : decode cX2_farPull 49 = .ok (.getfield 41, 3) := dk_180 0 41 (dk_at dksX2_farPull_2 1 rfl rfl)
theorem dX2_farPull_52 : decode cX2_farPull 52 = .ok (.iload 4, 2) := dk_21 4 (dk_at dksX2_farPull_2 4 rfl rfl)
theorem dX2_farPull_54 : decode cX2_farPull 54 = .ok (.iaload, 1) := dk_46 (dk_at dksX2_farPull_2 6 rfl rfl)
theorem dX2_farPull_55 : decode cX2_farPull 55 = .ok (.iload 5, 2) := dk_21 5 (dk_at dksX2_farPull_2 7 rfl rfl)
theorem dX2_farPull_57 : decode cX2_farPull 57 = .ok (.invokevirtual 332, 3) := dk_182 1 76 (dk_at dksX2_farPull_2 9 rfl rfl)
theorem dX2_farPull_60 : decode cX2_farPull 60 = .ok (.dstore 6, 2) := dk_57 6 (dk_at dksX2_farPull_2 12 rfl rfl)
theorem dX2_farPull_62 : decode cX2_farPull 62 = .ok (.iload 5, 2) := dk_21 5 (dk_at dksX2_farPull_2 14 rfl rfl)
theorem dX2_farPull_64 : decode cX2_farPull 64 = .ok (.ifCond .le 10, 3) := dk_158 0 10 (dk_at dksX2_farPull_2 16 rfl rfl)
theorem dX2_farPull_67 : decode cX2_farPull 67 = .ok (.dload_n 2, 1) := dk_40 (dk_at dksX2_farPull_2 19 rfl rfl)
theorem dX2_farPull_68 : decode cX2_farPull 68 = .ok (.dload 6, 2) := dk_24 6 (dk_at dksX2_farPull_2 20 rfl rfl)
theorem dX2_farPull_70 : decode cX2_farPull 70 = .ok (.dsub, 1) := dk_103 (dk_at dksX2_farPull_2 22 rfl rfl)
theorem dX2_farPull_71 : decode cX2_farPull 71 = .ok (.goto 7, 3) := dk_167 0 7 (dk_at dksX2_farPull_3 0 rfl rfl)
theorem dX2_farPull_74 : decode cX2_farPull 74 = .ok (.dload_n 2, 1) := dk_40 (dk_at dksX2_farPull_3 3 rfl rfl)
theorem dX2_farPull_75 : decode cX2_farPull 75 = .ok (.dload 6, 2) := dk_24 6 (dk_at dksX2_farPull_3 4 rfl rfl)
theorem dX2_farPull_77 : decode cX2_farPull 77 = .ok (.dadd, 1) := dk_99 (dk_at dksX2_farPull_3 6 rfl rfl)
theorem dX2_farPull_78 : decode cX2_farPull 78 = .ok (.dstore_n 2, 1) := dk_73 (dk_at dksX2_farPull_3 7 rfl rfl)
theorem dX2_farPull_79 : decode cX2_farPull 79 = .ok (.iinc 4 1, 3) := dk_132 4 1 (dk_at dksX2_farPull_3 8 rfl rfl)
theorem dX2_farPull_82 : decode cX2_farPull 82 = .ok (.goto (-72), 3) := dk_167 255 184 (dk_at dksX2_farPull_3 11 rfl rfl)
theorem dX2_farPull_85 : decode cX2_farPull 85 = .ok (.dload_n 2, 1) := dk_40 (dk_at dksX2_farPull_3 14 rfl rfl)
theorem dX2_farPull_86 : decode cX2_farPull 86 = .ok (.dreturn, 1) := dk_175 (dk_at dksX2_farPull_3 15 rfl rfl)
abbrev cX2_pullFar : ByteArray := prog_10_method_104_code
def yX2_pullFar : MethodName := ⟨RX2, "pullFar", "(I)D"⟩
def dkwX2_pullFar_0 : List UInt8 := [42, 27, 182, 0, 216, 153, 0, 11, 42, 27, 182, 1, 83, 167, 0, 4, 14, 175]
abbrev dktX2_pullFar_0 : List UInt8 := dkwX2_pullFar_0 ++ []
theorem dksX2_pullFar_0 : cX2_pullFar.data.toList.drop 0 = dktX2_pullFar_0 := by decide +kernel
theorem dX2_pullFar_0 : decode cX2_pullFar 0 = .ok (.aload_n 0, 1) := dk_42 (dk_at dksX2_pullFar_0 0 rfl rfl)
theorem dX2_pullFar_1 : decode cX2_pullFar 1 = .ok (.iload_n 1, 1) := dk_27 (dk_at dksX2_pullFar_0 1 rfl rfl)
theorem dX2_pullFar_2 : decode cX2_pullFar 2 = .ok (.invokevirtual 216, 3) := dk_182 0 216 (dk_at dksX2_pullFar_0 2 rfl rfl)
theorem dX2_pullFar_5 : decode cX2_pullFar 5 = .ok (.ifCond .eq 11, 3) := dk_153 0 11 (dk_at dksX2_pullFar_0 5 rfl rfl)
theorem dX2_pullFar_8 : decode cX2_pullFar 8 = .ok (.aload_n 0, 1) := dk_42 (dk_at dksX2_pullFar_0 8 rfl rfl)
theorem dX2_pullFar_9 : decode cX2_pullFar 9 = .ok (.iload_n 1, 1) := dk_27 (dk_at dksX2_pullFar_0 9 rfl rfl)
theorem dX2_pullFar_10 : decode cX2_pullFar 10 = .ok (.invokevirtual 339, 3) := dk_182 1 83 (dk_at dksX2_pullFar_0 10 rfl rfl)
theorem dX2_pullFar_13 : decode cX2_pullFar 13 = .ok (.goto 4, 3) := dk_167 0 4 (dk_at dksX2_pullFar_0 13 rfl rfl)
theorem dX2_pullFar_16 : decode cX2_pullFar 16 = .ok (.dconst 0, 1) := dk_14 (dk_at dksX2_pullFar_0 16 rfl rfl)
theorem dX2_pullFar_17 : decode cX2_pullFar 17 = .ok (.dreturn, 1) := dk_175 (dk_at dksX2_pullFar_0 17 rfl rfl)
abbrev cX2_pullAll : ByteArray := prog_10_method_102_code
def yX2_pullAll : MethodName := ⟨RX2, "pullAll", "(I)D"⟩
def dkwX2_pullAll_0 : List UInt8 := [42, 27, 3, 182, 1, 79, 42, 27, 182, 1, 83, 99, 175]
abbrev dktX2_pullAll_0 : List UInt8 := dkwX2_pullAll_0 ++ []
theorem dksX2_pullAll_0 : cX2_pullAll.data.toList.drop 0 = dktX2_pullAll_0 := by decide +kernel
theorem dX2_pullAll_0 : decode cX2_pullAll 0 = .ok (.aload_n 0, 1) := dk_42 (dk_at dksX2_pullAll_0 0 rfl rfl)
theorem dX2_pullAll_1 : decode cX2_pullAll 1 = .ok (.iload_n 1, 1) := dk_27 (dk_at dksX2_pullAll_0 1 rfl rfl)
theorem dX2_pullAll_2 : decode cX2_pullAll 2 = .ok (.iconst 0, 1) := dk_3 (dk_at dksX2_pullAll_0 2 rfl rfl)
theorem dX2_pullAll_3 : decode cX2_pullAll 3 = .ok (.invokevirtual 335, 3) := dk_182 1 79 (dk_at dksX2_pullAll_0 3 rfl rfl)
theorem dX2_pullAll_6 : decode cX2_pullAll 6 = .ok (.aload_n 0, 1) := dk_42 (dk_at dksX2_pullAll_0 6 rfl rfl)
theorem dX2_pullAll_7 : decode cX2_pullAll 7 = .ok (.iload_n 1, 1) := dk_27 (dk_at dksX2_pullAll_0 7 rfl rfl)
theorem dX2_pullAll_8 : decode cX2_pullAll 8 = .ok (.invokevirtual 339, 3) := dk_182 1 83 (dk_at dksX2_pullAll_0 8 rfl rfl)
theorem dX2_pullAll_11 : decode cX2_pullAll 11 = .ok (.dadd, 1) := dk_99 (dk_at dksX2_pullAll_0 11 rfl rfl)
theorem dX2_pullAll_12 : decode cX2_pullAll 12 = .ok (.dreturn, 1) := dk_175 (dk_at dksX2_pullAll_0 12 rfl rfl)
abbrev cX2_pull : ByteArray := prog_10_method_105_code
def yX2_pull : MethodName := ⟨RX2, "pull", "(I)D"⟩
def dkwX2_pull_0 : List UInt8 := [42, 27, 182, 0, 216, 153, 0, 11, 42, 27, 182, 1, 86, 167, 0, 4, 14, 175]
abbrev dktX2_pull_0 : List UInt8 := dkwX2_pull_0 ++ []
theorem dksX2_pull_0 : cX2_pull.data.toList.drop 0 = dktX2_pull_0 := by decide +kernel
theorem dX2_pull_0 : decode cX2_pull 0 = .ok (.aload_n 0, 1) := dk_42 (dk_at dksX2_pull_0 0 rfl rfl)
theorem dX2_pull_1 : decode cX2_pull 1 = .ok (.iload_n 1, 1) := dk_27 (dk_at dksX2_pull_0 1 rfl rfl)
theorem dX2_pull_2 : decode cX2_pull 2 = .ok (.invokevirtual 216, 3) := dk_182 0 216 (dk_at dksX2_pull_0 2 rfl rfl)
theorem dX2_pull_5 : decode cX2_pull 5 = .ok (.ifCond .eq 11, 3) := dk_153 0 11 (dk_at dksX2_pull_0 5 rfl rfl)
theorem dX2_pull_8 : decode cX2_pull 8 = .ok (.aload_n 0, 1) := dk_42 (dk_at dksX2_pull_0 8 rfl rfl)
theorem dX2_pull_9 : decode cX2_pull 9 = .ok (.iload_n 1, 1) := dk_27 (dk_at dksX2_pull_0 9 rfl rfl)
theorem dX2_pull_10 : decode cX2_pull 10 = .ok (.invokevirtual 342, 3) := dk_182 1 86 (dk_at dksX2_pull_0 10 rfl rfl)
theorem dX2_pull_13 : decode cX2_pull 13 = .ok (.goto 4, 3) := dk_167 0 4 (dk_at dksX2_pull_0 13 rfl rfl)
theorem dX2_pull_16 : decode cX2_pull 16 = .ok (.dconst 0, 1) := dk_14 (dk_at dksX2_pull_0 16 rfl rfl)
theorem dX2_pull_17 : decode cX2_pull 17 = .ok (.dreturn, 1) := dk_175 (dk_at dksX2_pull_0 17 rfl rfl)
abbrev cX2_nearestZero : ByteArray := prog_10_method_109_code
def yX2_nearestZero : MethodName := ⟨RX2, "nearestZero", "(I)I"⟩
def dkwX2_nearestZero_4 : List UInt8 := [184, 0, 187, 162, 0, 6, 21, 5, 61, 132, 5, 1, 167, 255, 171, 28, 172]
abbrev dktX2_nearestZero_4 : List UInt8 := dkwX2_nearestZero_4 ++ []
def dkwX2_nearestZero_3 : List UInt8 := [54, 8, 24, 6, 74, 21, 8, 153, 0, 25, 28, 2, 159, 0, 17, 21, 5, 27, 184, 0, 187, 28, 27]
abbrev dktX2_nearestZero_3 : List UInt8 := dkwX2_nearestZero_3 ++ dktX2_nearestZero_4
def dkwX2_nearestZero_2 : List UInt8 := [167, 0, 4, 3, 24, 6, 14, 151, 158, 0, 7, 4, 167, 0, 4, 3, 159, 0, 7, 4, 167, 0, 4, 3]
abbrev dktX2_nearestZero_2 : List UInt8 := dkwX2_nearestZero_2 ++ dktX2_nearestZero_3
def dkwX2_nearestZero_1 : List UInt8 := [17, 0, 255, 162, 0, 83, 42, 21, 5, 4, 96, 4, 182, 1, 79, 57, 6, 41, 14, 151, 158, 0, 7, 4]
abbrev dktX2_nearestZero_1 : List UInt8 := dkwX2_nearestZero_1 ++ dktX2_nearestZero_2
def dkwX2_nearestZero_0 : List UInt8 := [42, 27, 182, 0, 216, 154, 0, 5, 3, 172, 2, 61, 42, 3, 4, 182, 1, 79, 74, 3, 54, 5, 21, 5]
abbrev dktX2_nearestZero_0 : List UInt8 := dkwX2_nearestZero_0 ++ dktX2_nearestZero_1
theorem dksX2_nearestZero_0 : cX2_nearestZero.data.toList.drop 0 = dktX2_nearestZero_0 := by decide +kernel
theorem dksX2_nearestZero_1 : cX2_nearestZero.data.toList.drop 24 = dktX2_nearestZero_1 := dk_seg dksX2_nearestZero_0 24 rfl rfl
theorem dksX2_nearestZero_2 : cX2_nearestZero.data.toList.drop 48 = dktX2_nearestZero_2 := dk_seg dksX2_nearestZero_1 24 rfl rfl
theorem dksX2_nearestZero_3 : cX2_nearestZero.data.toList.drop 72 = dktX2_nearestZero_3 := dk_seg dksX2_nearestZero_2 24 rfl rfl
theorem dksX2_nearestZero_4 : cX2_nearestZero.data.toList.drop 95 = dktX2_nearestZero_4 := dk_seg dksX2_nearestZero_3 23 rfl rfl
theorem dX2_nearestZero_0 : decode cX2_nearestZero 0 = .ok (.aload_n 0, 1) := dk_42 (dk_at dksX2_nearestZero_0 0 rfl rfl)
theorem dX2_nearestZero_1 : decode cX2_nearestZero 1 = .ok (.iload_n 1, 1) := dk_27 (dk_at dksX2_nearestZero_0 1 rfl rfl)
theorem dX2_nearestZero_2 : decode cX2_nearestZero 2 = .ok (.invokevirtual 216, 3) := dk_182 0 216 (dk_at dksX2_nearestZero_0 2 rfl rfl)
theorem dX2_nearestZero_5 : decode cX2_nearestZero 5 = .ok (.ifCond .ne 5, 3) := dk_154 0 5 (dk_at dksX2_nearestZero_0 5 rfl rfl)
theorem dX2_nearestZero_8 : decode cX2_nearestZero 8 = .ok (.iconst 0, 1) := dk_3 (dk_at dksX2_nearestZero_0 8 rfl rfl)
theorem dX2_nearestZero_9 : decode cX2_nearestZero 9 = .ok (.ireturn, 1) := dk_172 (dk_at dksX2_nearestZero_0 9 rfl rfl)
theorem dX2_nearestZero_10 : decode cX2_nearestZero 10 = .ok (.iconst (-1), 1) := dk_2 (dk_at dksX2_nearestZero_0 10 rfl rfl)
theorem dX2_nearestZero_11 : decode cX2_nearestZero 11 = .ok (.istore_n 2, 1) := dk_61 (dk_at dksX2_nearestZero_0 11 rfl rfl)
theorem dX2_nearestZero_12 : decode cX2_nearestZero 12 = .ok (.aload_n 0, 1) := dk_42 (dk_at dksX2_nearestZero_0 12 rfl rfl)
theorem dX2_nearestZero_13 : decode cX2_nearestZero 13 = .ok (.iconst 0, 1) := dk_3 (dk_at dksX2_nearestZero_0 13 rfl rfl)
theorem dX2_nearestZero_14 : decode cX2_nearestZero 14 = .ok (.iconst 1, 1) := dk_4 (dk_at dksX2_nearestZero_0 14 rfl rfl)
theorem dX2_nearestZero_15 : decode cX2_nearestZero 15 = .ok (.invokevirtual 335, 3) := dk_182 1 79 (dk_at dksX2_nearestZero_0 15 rfl rfl)
theorem dX2_nearestZero_18 : decode cX2_nearestZero 18 = .ok (.dstore_n 3, 1) := dk_74 (dk_at dksX2_nearestZero_0 18 rfl rfl)
theorem dX2_nearestZero_19 : decode cX2_nearestZero 19 = .ok (.iconst 0, 1) := dk_3 (dk_at dksX2_nearestZero_0 19 rfl rfl)
theorem dX2_nearestZero_20 : decode cX2_nearestZero 20 = .ok (.istore 5, 2) := dk_54 5 (dk_at dksX2_nearestZero_0 20 rfl rfl)
theorem dX2_nearestZero_22 : decode cX2_nearestZero 22 = .ok (.iload 5, 2) := dk_21 5 (dk_at dksX2_nearestZero_0 22 rfl rfl)
theorem dX2_nearestZero_24 : decode cX2_nearestZero 24 = .ok (.sipush 255, 3) := dk_17 0 255 (dk_at dksX2_nearestZero_1 0 rfl rfl)
theorem dX2_nearestZero_27 : decode cX2_nearestZero 27 = .ok (.if_icmp .ge 83, 3) := dk_162 0 83 (dk_at dksX2_nearestZero_1 3 rfl rfl)
theorem dX2_nearestZero_30 : decode cX2_nearestZero 30 = .ok (.aload_n 0, 1) := dk_42 (dk_at dksX2_nearestZero_1 6 rfl rfl)
theorem dX2_nearestZero_31 : decode cX2_nearestZero 31 = .ok (.iload 5, 2) := dk_21 5 (dk_at dksX2_nearestZero_1 7 rfl rfl)
theorem dX2_nearestZero_33 : decode cX2_nearestZero 33 = .ok (.iconst 1, 1) := dk_4 (dk_at dksX2_nearestZero_1 9 rfl rfl)
theorem dX2_nearestZero_34 : decode cX2_nearestZero 34 = .ok (.iadd, 1) := dk_96 (dk_at dksX2_nearestZero_1 10 rfl rfl)
theorem dX2_nearestZero_35 : decode cX2_nearestZero 35 = .ok (.iconst 1, 1) := dk_4 (dk_at dksX2_nearestZero_1 11 rfl rfl)
theorem dX2_nearestZero_36 : decode cX2_nearestZero 36 = .ok (.invokevirtual 335, 3) := dk_182 1 79 (dk_at dksX2_nearestZero_1 12 rfl rfl)
theorem dX2_nearestZero_39 : decode cX2_nearestZero 39 = .ok (.dstore 6, 2) := dk_57 6 (dk_at dksX2_nearestZero_1 15 rfl rfl)
theorem dX2_nearestZero_41 : decode cX2_nearestZero 41 = .ok (.dload_n 3, 1) := dk_41 (dk_at dksX2_nearestZero_1 17 rfl rfl)
theorem dX2_nearestZero_42 : decode cX2_nearestZero 42 = .ok (.dconst 0, 1) := dk_14 (dk_at dksX2_nearestZero_1 18 rfl rfl)
theorem dX2_nearestZero_43 : decode cX2_nearestZero 43 = .ok (.dcmp .l, 1) := dk_151 (dk_at dksX2_nearestZero_1 19 rfl rfl)
theorem dX2_nearestZero_44 : decode cX2_nearestZero 44 = .ok (.ifCond .le 7, 3) := dk_158 0 7 (dk_at dksX2_nearestZero_1 20 rfl rfl)
theorem dX2_nearestZero_47 : decode cX2_nearestZero 47 = .ok (.iconst 1, 1) := dk_4 (dk_at dksX2_nearestZero_1 23 rfl rfl)
theorem dX2_nearestZero_48 : decode cX2_nearestZero 48 = .ok (.goto 4, 3) := dk_167 0 4 (dk_at dksX2_nearestZero_2 0 rfl rfl)
theorem dX2_nearestZero_51 : decode cX2_nearestZero 51 = .ok (.iconst 0, 1) := dk_3 (dk_at dksX2_nearestZero_2 3 rfl rfl)
theorem dX2_nearestZero_52 : decode cX2_nearestZero 52 = .ok (.dload 6, 2) := dk_24 6 (dk_at dksX2_nearestZero_2 4 rfl rfl)
theorem dX2_nearestZero_54 : decode cX2_nearestZero 54 = .ok (.dconst 0, 1) := dk_14 (dk_at dksX2_nearestZero_2 6 rfl rfl)
theorem dX2_nearestZero_55 : decode cX2_nearestZero 55 = .ok (.dcmp .l, 1) := dk_151 (dk_at dksX2_nearestZero_2 7 rfl rfl)
theorem dX2_nearestZero_56 : decode cX2_nearestZero 56 = .ok (.ifCond .le 7, 3) := dk_158 0 7 (dk_at dksX2_nearestZero_2 8 rfl rfl)
theorem dX2_nearestZero_59 : decode cX2_nearestZero 59 = .ok (.iconst 1, 1) := dk_4 (dk_at dksX2_nearestZero_2 11 rfl rfl)
theorem dX2_nearestZero_60 : decode cX2_nearestZero 60 = .ok (.goto 4, 3) := dk_167 0 4 (dk_at dksX2_nearestZero_2 12 rfl rfl)
theorem dX2_nearestZero_63 : decode cX2_nearestZero 63 = .ok (.iconst 0, 1) := dk_3 (dk_at dksX2_nearestZero_2 15 rfl rfl)
theorem dX2_nearestZero_64 : decode cX2_nearestZero 64 = .ok (.if_icmp .eq 7, 3) := dk_159 0 7 (dk_at dksX2_nearestZero_2 16 rfl rfl)
theorem dX2_nearestZero_67 : decode cX2_nearestZero 67 = .ok (.iconst 1, 1) := dk_4 (dk_at dksX2_nearestZero_2 19 rfl rfl)
theorem dX2_nearestZero_68 : decode cX2_nearestZero 68 = .ok (.goto 4, 3) := dk_167 0 4 (dk_at dksX2_nearestZero_2 20 rfl rfl)
theorem dX2_nearestZero_71 : decode cX2_nearestZero 71 = .ok (.iconst 0, 1) := dk_3 (dk_at dksX2_nearestZero_2 23 rfl rfl)
theorem dX2_nearestZero_72 : decode cX2_nearestZero 72 = .ok (.istore 8, 2) := dk_54 8 (dk_at dksX2_nearestZero_3 0 rfl rfl)
theorem dX2_nearestZero_74 : decode cX2_nearestZero 74 = .ok (.dload 6, 2) := dk_24 6 (dk_at dksX2_nearestZero_3 2 rfl rfl)
theorem dX2_nearestZero_76 : decode cX2_nearestZero 76 = .ok (.dstore_n 3, 1) := dk_74 (dk_at dksX2_nearestZero_3 4 rfl rfl)
theorem dX2_nearestZero_77 : decode cX2_nearestZero 77 = .ok (.iload 8, 2) := dk_21 8 (dk_at dksX2_nearestZero_3 5 rfl rfl)
theorem dX2_nearestZero_79 : decode cX2_nearestZero 79 = .ok (.ifCond .eq 25, 3) := dk_153 0 25 (dk_at dksX2_nearestZero_3 7 rfl rfl)
theorem dX2_nearestZero_82 : decode cX2_nearestZero 82 = .ok (.iload_n 2, 1) := dk_28 (dk_at dksX2_nearestZero_3 10 rfl rfl)
theorem dX2_nearestZero_83 : decode cX2_nearestZero 83 = .ok (.iconst (-1), 1) := dk_2 (dk_at dksX2_nearestZero_3 11 rfl rfl)
theorem dX2_nearestZero_84 : decode cX2_nearestZero 84 = .ok (.if_icmp .eq 17, 3) := dk_159 0 17 (dk_at dksX2_nearestZero_3 12 rfl rfl)
theorem dX2_nearestZero_87 : decode cX2_nearestZero 87 = .ok (.iload 5, 2) := dk_21 5 (dk_at dksX2_nearestZero_3 15 rfl rfl)
theorem dX2_nearestZero_89 : decode cX2_nearestZero 89 = .ok (.iload_n 1, 1) := dk_27 (dk_at dksX2_nearestZero_3 17 rfl rfl)
theorem dX2_nearestZero_90 : decode cX2_nearestZero 90 = .ok (.invokestatic 187, 3) := dk_184 0 187 (dk_at dksX2_nearestZero_3 18 rfl rfl)
theorem dX2_nearestZero_93 : decode cX2_nearestZero 93 = .ok (.iload_n 2, 1) := dk_28 (dk_at dksX2_nearestZero_3 21 rfl rfl)
theorem dX2_nearestZero_94 : decode cX2_nearestZero 94 = .ok (.iload_n 1, 1) := dk_27 (dk_at dksX2_nearestZero_3 22 rfl rfl)
theorem dX2_nearestZero_95 : decode cX2_nearestZero 95 = .ok (.invokestatic 187, 3) := dk_184 0 187 (dk_at dksX2_nearestZero_4 0 rfl rfl)
theorem dX2_nearestZero_98 : decode cX2_nearestZero 98 = .ok (.if_icmp .ge 6, 3) := dk_162 0 6 (dk_at dksX2_nearestZero_4 3 rfl rfl)
theorem dX2_nearestZero_101 : decode cX2_nearestZero 101 = .ok (.iload 5, 2) := dk_21 5 (dk_at dksX2_nearestZero_4 6 rfl rfl)
theorem dX2_nearestZero_103 : decode cX2_nearestZero 103 = .ok (.istore_n 2, 1) := dk_61 (dk_at dksX2_nearestZero_4 8 rfl rfl)
theorem dX2_nearestZero_104 : decode cX2_nearestZero 104 = .ok (.iinc 5 1, 3) := dk_132 5 1 (dk_at dksX2_nearestZero_4 9 rfl rfl)
theorem dX2_nearestZero_107 : decode cX2_nearestZero 107 = .ok (.goto (-85), 3) := dk_167 255 171 (dk_at dksX2_nearestZero_4 12 rfl rfl)
theorem dX2_nearestZero_110 : decode cX2_nearestZero 110 = .ok (.iload_n 2, 1) := dk_28 (dk_at dksX2_nearestZero_4 15 rfl rfl)
theorem dX2_nearestZero_111 : decode cX2_nearestZero 111 = .ok (.ireturn, 1) := dk_172 (dk_at dksX2_nearestZero_4 16 rfl rfl)
abbrev cX2_moves : ByteArray := prog_10_method_106_code
def yX2_moves : MethodName := ⟨RX2, "moves", "(I)I"⟩
def dkwX2_moves_4 : List UInt8 := [3, 172]
abbrev dktX2_moves_4 : List UInt8 := dkwX2_moves_4 ++ []
def dkwX2_moves_3 : List UInt8 := [156, 0, 24, 42, 27, 3, 182, 0, 163, 158, 0, 7, 4, 167, 0, 4, 3, 184, 0, 170, 116, 167, 0, 4]
abbrev dktX2_moves_3 : List UInt8 := dkwX2_moves_3 ++ dktX2_moves_4
def dkwX2_moves_2 : List UInt8 := [182, 0, 163, 17, 0, 255, 162, 0, 7, 4, 167, 0, 4, 3, 184, 0, 170, 172, 40, 14, 24, 4, 103, 152]
abbrev dktX2_moves_2 : List UInt8 := dkwX2_moves_2 ++ dktX2_moves_3
def dkwX2_moves_1 : List UInt8 := [180, 0, 9, 8, 46, 135, 20, 1, 89, 111, 57, 4, 40, 24, 4, 151, 158, 0, 24, 42, 27, 3]
abbrev dktX2_moves_1 : List UInt8 := dkwX2_moves_1 ++ dktX2_moves_2
def dkwX2_moves_0 : List UInt8 := [42, 27, 5, 182, 0, 163, 4, 160, 0, 5, 3, 172, 42, 42, 27, 3, 182, 0, 163, 182, 1, 86, 73, 42]
abbrev dktX2_moves_0 : List UInt8 := dkwX2_moves_0 ++ dktX2_moves_1
theorem dksX2_moves_0 : cX2_moves.data.toList.drop 0 = dktX2_moves_0 := by decide +kernel
theorem dksX2_moves_1 : cX2_moves.data.toList.drop 24 = dktX2_moves_1 := dk_seg dksX2_moves_0 24 rfl rfl
theorem dksX2_moves_2 : cX2_moves.data.toList.drop 46 = dktX2_moves_2 := dk_seg dksX2_moves_1 22 rfl rfl
theorem dksX2_moves_3 : cX2_moves.data.toList.drop 70 = dktX2_moves_3 := dk_seg dksX2_moves_2 24 rfl rfl
theorem dksX2_moves_4 : cX2_moves.data.toList.drop 94 = dktX2_moves_4 := dk_seg dksX2_moves_3 24 rfl rfl
theorem dX2_moves_0 : decode cX2_moves 0 = .ok (.aload_n 0, 1) := dk_42 (dk_at dksX2_moves_0 0 rfl rfl)
theorem dX2_moves_1 : decode cX2_moves 1 = .ok (.iload_n 1, 1) := dk_27 (dk_at dksX2_moves_0 1 rfl rfl)
theorem dX2_moves_2 : decode cX2_moves 2 = .ok (.iconst 2, 1) := dk_5 (dk_at dksX2_moves_0 2 rfl rfl)
theorem dX2_moves_3 : decode cX2_moves 3 = .ok (.invokevirtual 163, 3) := dk_182 0 163 (dk_at dksX2_moves_0 3 rfl rfl)
theorem dX2_moves_6 : decode cX2_moves 6 = .ok (.iconst 1, 1) := dk_4 (dk_at dksX2_moves_0 6 rfl rfl)
theorem dX2_moves_7 : decode cX2_moves 7 = .ok (.if_icmp .ne 5, 3) := dk_160 0 5 (dk_at dksX2_moves_0 7 rfl rfl)
theorem dX2_moves_10 : decode cX2_moves 10 = .ok (.iconst 0, 1) := dk_3 (dk_at dksX2_moves_0 10 rfl rfl)
theorem dX2_moves_11 : decode cX2_moves 11 = .ok (.ireturn, 1) := dk_172 (dk_at dksX2_moves_0 11 rfl rfl)
theorem dX2_moves_12 : decode cX2_moves 12 = .ok (.aload_n 0, 1) := dk_42 (dk_at dksX2_moves_0 12 rfl rfl)
theorem dX2_moves_13 : decode cX2_moves 13 = .ok (.aload_n 0, 1) := dk_42 (dk_at dksX2_moves_0 13 rfl rfl)
theorem dX2_moves_14 : decode cX2_moves 14 = .ok (.iload_n 1, 1) := dk_27 (dk_at dksX2_moves_0 14 rfl rfl)
theorem dX2_moves_15 : decode cX2_moves 15 = .ok (.iconst 0, 1) := dk_3 (dk_at dksX2_moves_0 15 rfl rfl)
theorem dX2_moves_16 : decode cX2_moves 16 = .ok (.invokevirtual 163, 3) := dk_182 0 163 (dk_at dksX2_moves_0 16 rfl rfl)
theorem dX2_moves_19 : decode cX2_moves 19 = .ok (.invokevirtual 342, 3) := dk_182 1 86 (dk_at dksX2_moves_0 19 rfl rfl)
theorem dX2_moves_22 : decode cX2_moves 22 = .ok (.dstore_n 2, 1) := dk_73 (dk_at dksX2_moves_0 22 rfl rfl)
theorem dX2_moves_23 : decode cX2_moves 23 = .ok (.aload_n 0, 1) := dk_42 (dk_at dksX2_moves_0 23 rfl rfl)
theorem dX2_moves_24 : decode cX2_moves 24 = .ok (.getfield 9, 3) := dk_180 0 9 (dk_at dksX2_moves_1 0 rfl rfl)
theorem dX2_moves_27 : decode cX2_moves 27 = .ok (.iconst 5, 1) := dk_8 (dk_at dksX2_moves_1 3 rfl rfl)
theorem dX2_moves_28 : decode cX2_moves 28 = .ok (.iaload, 1) := dk_46 (dk_at dksX2_moves_1 4 rfl rfl)
theorem dX2_moves_29 : decode cX2_moves 29 = .ok (.i2d, 1) := dk_135 (dk_at dksX2_moves_1 5 rfl rfl)
theorem dX2_moves_30 : decode cX2_moves 30 = .ok (.ldc2_w 345, 3) := dk_20 1 89 (dk_at dksX2_moves_1 6 rfl rfl)
theorem dX2_moves_33 : decode cX2_moves 33 = .ok (.ddiv, 1) := dk_111 (dk_at dksX2_moves_1 9 rfl rfl)
theorem dX2_moves_34 : decode cX2_moves 34 = .ok (.dstore 4, 2) := dk_57 4 (dk_at dksX2_moves_1 10 rfl rfl)
theorem dX2_moves_36 : decode cX2_moves 36 = .ok (.dload_n 2, 1) := dk_40 (dk_at dksX2_moves_1 12 rfl rfl)
theorem dX2_moves_37 : decode cX2_moves 37 = .ok (.dload 4, 2) := dk_24 4 (dk_at dksX2_moves_1 13 rfl rfl)
theorem dX2_moves_39 : decode cX2_moves 39 = .ok (.dcmp .l, 1) := dk_151 (dk_at dksX2_moves_1 15 rfl rfl)
theorem dX2_moves_40 : decode cX2_moves 40 = .ok (.ifCond .le 24, 3) := dk_158 0 24 (dk_at dksX2_moves_1 16 rfl rfl)
theorem dX2_moves_43 : decode cX2_moves 43 = .ok (.aload_n 0, 1) := dk_42 (dk_at dksX2_moves_1 19 rfl rfl)
theorem dX2_moves_44 : decode cX2_moves 44 = .ok (.iload_n 1, 1) := dk_27 (dk_at dksX2_moves_1 20 rfl rfl)
theorem dX2_moves_45 : decode cX2_moves 45 = .ok (.iconst 0, 1) := dk_3 (dk_at dksX2_moves_1 21 rfl rfl)
theorem dX2_moves_46 : decode cX2_moves 46 = .ok (.invokevirtual 163, 3) := dk_182 0 163 (dk_at dksX2_moves_2 0 rfl rfl)
theorem dX2_moves_49 : decode cX2_moves 49 = .ok (.sipush 255, 3) := dk_17 0 255 (dk_at dksX2_moves_2 3 rfl rfl)
theorem dX2_moves_52 : decode cX2_moves 52 = .ok (.if_icmp .ge 7, 3) := dk_162 0 7 (dk_at dksX2_moves_2 6 rfl rfl)
theorem dX2_moves_55 : decode cX2_moves 55 = .ok (.iconst 1, 1) := dk_4 (dk_at dksX2_moves_2 9 rfl rfl)
theorem dX2_moves_56 : decode cX2_moves 56 = .ok (.goto 4, 3) := dk_167 0 4 (dk_at dksX2_moves_2 10 rfl rfl)
theorem dX2_moves_59 : decode cX2_moves 59 = .ok (.iconst 0, 1) := dk_3 (dk_at dksX2_moves_2 13 rfl rfl)
theorem dX2_moves_60 : decode cX2_moves 60 = .ok (.invokestatic 170, 3) := dk_184 0 170 (dk_at dksX2_moves_2 14 rfl rfl)
theorem dX2_moves_63 : decode cX2_moves 63 = .ok (.ireturn, 1) := dk_172 (dk_at dksX2_moves_2 17 rfl rfl)
theorem dX2_moves_64 : decode cX2_moves 64 = .ok (.dload_n 2, 1) := dk_40 (dk_at dksX2_moves_2 18 rfl rfl)
theorem dX2_moves_65 : decode cX2_moves 65 = .ok (.dconst 0, 1) := dk_14 (dk_at dksX2_moves_2 19 rfl rfl)
theorem dX2_moves_66 : decode cX2_moves 66 = .ok (.dload 4, 2) := dk_24 4 (dk_at dksX2_moves_2 20 rfl rfl)
theorem dX2_moves_68 : decode cX2_moves 68 = .ok (.dsub, 1) := dk_103 (dk_at dksX2_moves_2 22 rfl rfl)
theorem dX2_moves_69 : decode cX2_moves 69 = .ok (.dcmp .g, 1) := dk_152 (dk_at dksX2_moves_2 23 rfl rfl)
theorem dX2_moves_70 : decode cX2_moves 70 = .ok (.ifCond .ge 24, 3) := dk_156 0 24 (dk_at dksX2_moves_3 0 rfl rfl)
theorem dX2_moves_73 : decode cX2_moves 73 = .ok (.aload_n 0, 1) := dk_42 (dk_at dksX2_moves_3 3 rfl rfl)
theorem dX2_moves_74 : decode cX2_moves 74 = .ok (.iload_n 1, 1) := dk_27 (dk_at dksX2_moves_3 4 rfl rfl)
theorem dX2_moves_75 : decode cX2_moves 75 = .ok (.iconst 0, 1) := dk_3 (dk_at dksX2_moves_3 5 rfl rfl)
theorem dX2_moves_76 : decode cX2_moves 76 = .ok (.invokevirtual 163, 3) := dk_182 0 163 (dk_at dksX2_moves_3 6 rfl rfl)
theorem dX2_moves_79 : decode cX2_moves 79 = .ok (.ifCond .le 7, 3) := dk_158 0 7 (dk_at dksX2_moves_3 9 rfl rfl)
theorem dX2_moves_82 : decode cX2_moves 82 = .ok (.iconst 1, 1) := dk_4 (dk_at dksX2_moves_3 12 rfl rfl)
theorem dX2_moves_83 : decode cX2_moves 83 = .ok (.goto 4, 3) := dk_167 0 4 (dk_at dksX2_moves_3 13 rfl rfl)
theorem dX2_moves_86 : decode cX2_moves 86 = .ok (.iconst 0, 1) := dk_3 (dk_at dksX2_moves_3 16 rfl rfl)
theorem dX2_moves_87 : decode cX2_moves 87 = .ok (.invokestatic 170, 3) := dk_184 0 170 (dk_at dksX2_moves_3 17 rfl rfl)
theorem dX2_moves_90 : decode cX2_moves 90 = .ok (.ineg, 1) := dk_116 (dk_at dksX2_moves_3 20 rfl rfl)
theorem dX2_moves_91 : decode cX2_moves 91 = .ok (.goto 4, 3) := dk_167 0 4 (dk_at dksX2_moves_3 21 rfl rfl)
theorem dX2_moves_94 : decode cX2_moves 94 = .ok (.iconst 0, 1) := dk_3 (dk_at dksX2_moves_4 0 rfl rfl)
theorem dX2_moves_95 : decode cX2_moves 95 = .ok (.ireturn, 1) := dk_172 (dk_at dksX2_moves_4 1 rfl rfl)
abbrev cX2_willMove : ByteArray := prog_10_method_110_code
def yX2_willMove : MethodName := ⟨RX2, "willMove", "(I)I"⟩
def dkwX2_willMove_1 : List UInt8 := [3, 172]
abbrev dktX2_willMove_1 : List UInt8 := dkwX2_willMove_1 ++ []
def dkwX2_willMove_0 : List UInt8 := [42, 42, 180, 0, 156, 42, 27, 182, 0, 210, 182, 0, 193, 153, 0, 11, 42, 27, 182, 1, 91, 167, 0, 4]
abbrev dktX2_willMove_0 : List UInt8 := dkwX2_willMove_0 ++ dktX2_willMove_1
theorem dksX2_willMove_0 : cX2_willMove.data.toList.drop 0 = dktX2_willMove_0 := by decide +kernel
theorem dksX2_willMove_1 : cX2_willMove.data.toList.drop 24 = dktX2_willMove_1 := dk_seg dksX2_willMove_0 24 rfl rfl
theorem dX2_willMove_0 : decode cX2_willMove 0 = .ok (.aload_n 0, 1) := dk_42 (dk_at dksX2_willMove_0 0 rfl rfl)
theorem dX2_willMove_1 : decode cX2_willMove 1 = .ok (.aload_n 0, 1) := dk_42 (dk_at dksX2_willMove_0 1 rfl rfl)
theorem dX2_willMove_2 : decode cX2_willMove 2 = .ok (.getfield 156, 3) := dk_180 0 156 (dk_at dksX2_willMove_0 2 rfl rfl)
theorem dX2_willMove_5 : decode cX2_willMove 5 = .ok (.aload_n 0, 1) := dk_42 (dk_at dksX2_willMove_0 5 rfl rfl)
theorem dX2_willMove_6 : decode cX2_willMove 6 = .ok (.iload_n 1, 1) := dk_27 (dk_at dksX2_willMove_0 6 rfl rfl)
theorem dX2_willMove_7 : decode cX2_willMove 7 = .ok (.invokevirtual 210, 3) := dk_182 0 210 (dk_at dksX2_willMove_0 7 rfl rfl)
theorem dX2_willMove_10 : decode cX2_willMove 10 = .ok (.invokevirtual 193, 3) := dk_182 0 193 (dk_at dksX2_willMove_0 10 rfl rfl)
theorem dX2_willMove_13 : decode cX2_willMove 13 = .ok (.ifCond .eq 11, 3) := dk_153 0 11 (dk_at dksX2_willMove_0 13 rfl rfl)
theorem dX2_willMove_16 : decode cX2_willMove 16 = .ok (.aload_n 0, 1) := dk_42 (dk_at dksX2_willMove_0 16 rfl rfl)
theorem dX2_willMove_17 : decode cX2_willMove 17 = .ok (.iload_n 1, 1) := dk_27 (dk_at dksX2_willMove_0 17 rfl rfl)
theorem dX2_willMove_18 : decode cX2_willMove 18 = .ok (.invokevirtual 347, 3) := dk_182 1 91 (dk_at dksX2_willMove_0 18 rfl rfl)
theorem dX2_willMove_21 : decode cX2_willMove 21 = .ok (.goto 4, 3) := dk_167 0 4 (dk_at dksX2_willMove_0 21 rfl rfl)
theorem dX2_willMove_24 : decode cX2_willMove 24 = .ok (.iconst 0, 1) := dk_3 (dk_at dksX2_willMove_1 0 rfl rfl)
theorem dX2_willMove_25 : decode cX2_willMove 25 = .ok (.ireturn, 1) := dk_172 (dk_at dksX2_willMove_1 1 rfl rfl)
abbrev cX2_isAhead : ByteArray := prog_10_method_113_code
def yX2_isAhead : MethodName := ⟨RX2, "isAhead", "(I)Z"⟩
def dkwX2_isAhead_0 : List UInt8 := [26, 3, 16, 50, 184, 0, 77, 172]
abbrev dktX2_isAhead_0 : List UInt8 := dkwX2_isAhead_0 ++ []
theorem dksX2_isAhead_0 : cX2_isAhead.data.toList.drop 0 = dktX2_isAhead_0 := by decide +kernel
theorem dX2_isAhead_0 : decode cX2_isAhead 0 = .ok (.iload_n 0, 1) := dk_26 (dk_at dksX2_isAhead_0 0 rfl rfl)
theorem dX2_isAhead_1 : decode cX2_isAhead 1 = .ok (.iconst 0, 1) := dk_3 (dk_at dksX2_isAhead_0 1 rfl rfl)
theorem dX2_isAhead_2 : decode cX2_isAhead 2 = .ok (.bipush 50, 2) := dk_16 50 (dk_at dksX2_isAhead_0 2 rfl rfl)
theorem dX2_isAhead_4 : decode cX2_isAhead 4 = .ok (.invokestatic 77, 3) := dk_184 0 77 (dk_at dksX2_isAhead_0 4 rfl rfl)
theorem dX2_isAhead_7 : decode cX2_isAhead 7 = .ok (.ireturn, 1) := dk_172 (dk_at dksX2_isAhead_0 7 rfl rfl)
abbrev cX2_thinks : ByteArray := prog_10_method_111_code
def yX2_thinks : MethodName := ⟨RX2, "thinks", "()V"⟩
def dkwX2_thinks_0 : List UInt8 := [42, 180, 0, 9, 3, 42, 180, 0, 13, 3, 184, 0, 149, 177]
abbrev dktX2_thinks_0 : List UInt8 := dkwX2_thinks_0 ++ []
theorem dksX2_thinks_0 : cX2_thinks.data.toList.drop 0 = dktX2_thinks_0 := by decide +kernel
theorem dX2_thinks_0 : decode cX2_thinks 0 = .ok (.aload_n 0, 1) := dk_42 (dk_at dksX2_thinks_0 0 rfl rfl)
theorem dX2_thinks_1 : decode cX2_thinks 1 = .ok (.getfield 9, 3) := dk_180 0 9 (dk_at dksX2_thinks_0 1 rfl rfl)
theorem dX2_thinks_4 : decode cX2_thinks 4 = .ok (.iconst 0, 1) := dk_3 (dk_at dksX2_thinks_0 4 rfl rfl)
theorem dX2_thinks_5 : decode cX2_thinks 5 = .ok (.aload_n 0, 1) := dk_42 (dk_at dksX2_thinks_0 5 rfl rfl)
theorem dX2_thinks_6 : decode cX2_thinks 6 = .ok (.getfield 13, 3) := dk_180 0 13 (dk_at dksX2_thinks_0 6 rfl rfl)
theorem dX2_thinks_9 : decode cX2_thinks 9 = .ok (.iconst 0, 1) := dk_3 (dk_at dksX2_thinks_0 9 rfl rfl)
theorem dX2_thinks_10 : decode cX2_thinks 10 = .ok (.invokestatic 149, 3) := dk_184 0 149 (dk_at dksX2_thinks_0 10 rfl rfl)
theorem dX2_thinks_13 : decode cX2_thinks 13 = .ok (.return_, 1) := dk_177 (dk_at dksX2_thinks_0 13 rfl rfl)
abbrev cX2_steps : ByteArray := prog_10_method_107_code
def yX2_steps : MethodName := ⟨RX2, "steps", "()I"⟩
def dkwX2_steps_5 : List UInt8 := [42, 180, 0, 9, 16, 6, 92, 46, 4, 96, 79, 42, 180, 0, 9, 4, 92, 46, 27, 96, 79, 27, 172]
abbrev dktX2_steps_5 : List UInt8 := dkwX2_steps_5 ++ []
def dkwX2_steps_4 : List UInt8 := [180, 0, 51, 28, 46, 153, 0, 7, 4, 167, 0, 4, 3, 184, 0, 170, 96, 60, 132, 2, 1, 167, 255, 174]
abbrev dktX2_steps_4 : List UInt8 := dkwX2_steps_4 ++ dktX2_steps_5
def dkwX2_steps_3 : List UInt8 := [180, 0, 51, 28, 46, 153, 0, 7, 4, 167, 0, 4, 3, 184, 0, 170, 96, 182, 0, 166, 27, 42]
abbrev dktX2_steps_3 : List UInt8 := dkwX2_steps_3 ++ dktX2_steps_4
def dkwX2_steps_2 : List UInt8 := [3, 182, 0, 163, 42, 180, 0, 51, 28, 46, 96, 182, 0, 166, 42, 28, 6, 42, 28, 6, 182, 0, 163, 42]
abbrev dktX2_steps_2 : List UInt8 := dkwX2_steps_2 ++ dktX2_steps_3
def dkwX2_steps_1 : List UInt8 := [79, 132, 2, 1, 167, 255, 232, 3, 61, 28, 42, 180, 0, 9, 3, 46, 162, 0, 78, 42, 28, 3, 42, 28]
abbrev dktX2_steps_1 : List UInt8 := dkwX2_steps_1 ++ dktX2_steps_2
def dkwX2_steps_0 : List UInt8 := [3, 60, 3, 61, 28, 42, 180, 0, 9, 3, 46, 162, 0, 20, 42, 180, 0, 51, 28, 42, 28, 182, 1, 91]
abbrev dktX2_steps_0 : List UInt8 := dkwX2_steps_0 ++ dktX2_steps_1
theorem dksX2_steps_0 : cX2_steps.data.toList.drop 0 = dktX2_steps_0 := by decide +kernel
theorem dksX2_steps_1 : cX2_steps.data.toList.drop 24 = dktX2_steps_1 := dk_seg dksX2_steps_0 24 rfl rfl
theorem dksX2_steps_2 : cX2_steps.data.toList.drop 48 = dktX2_steps_2 := dk_seg dksX2_steps_1 24 rfl rfl
theorem dksX2_steps_3 : cX2_steps.data.toList.drop 72 = dktX2_steps_3 := dk_seg dksX2_steps_2 24 rfl rfl
theorem dksX2_steps_4 : cX2_steps.data.toList.drop 94 = dktX2_steps_4 := dk_seg dksX2_steps_3 22 rfl rfl
theorem dksX2_steps_5 : cX2_steps.data.toList.drop 118 = dktX2_steps_5 := dk_seg dksX2_steps_4 24 rfl rfl
theorem dX2_steps_0 : decode cX2_steps 0 = .ok (.iconst 0, 1) := dk_3 (dk_at dksX2_steps_0 0 rfl rfl)
theorem dX2_steps_1 : decode cX2_steps 1 = .ok (.istore_n 1, 1) := dk_60 (dk_at dksX2_steps_0 1 rfl rfl)
theorem dX2_steps_2 : decode cX2_steps 2 = .ok (.iconst 0, 1) := dk_3 (dk_at dksX2_steps_0 2 rfl rfl)
theorem dX2_steps_3 : decode cX2_steps 3 = .ok (.istore_n 2, 1) := dk_61 (dk_at dksX2_steps_0 3 rfl rfl)
theorem dX2_steps_4 : decode cX2_steps 4 = .ok (.iload_n 2, 1) := dk_28 (dk_at dksX2_steps_0 4 rfl rfl)
theorem dX2_steps_5 : decode cX2_steps 5 = .ok (.aload_n 0, 1) := dk_42 (dk_at dksX2_steps_0 5 rfl rfl)
theorem dX2_steps_6 : decode cX2_steps 6 = .ok (.getfield 9, 3) := dk_180 0 9 (dk_at dksX2_steps_0 6 rfl rfl)
theorem dX2_steps_9 : decode cX2_steps 9 = .ok (.iconst 0, 1) := dk_3 (dk_at dksX2_steps_0 9 rfl rfl)
theorem dX2_steps_10 : decode cX2_steps 10 = .ok (.iaload, 1) := dk_46 (dk_at dksX2_steps_0 10 rfl rfl)
theorem dX2_steps_11 : decode cX2_steps 11 = .ok (.if_icmp .ge 20, 3) := dk_162 0 20 (dk_at dksX2_steps_0 11 rfl rfl)
theorem dX2_steps_14 : decode cX2_steps 14 = .ok (.aload_n 0, 1) := dk_42 (dk_at dksX2_steps_0 14 rfl rfl)
theorem dX2_steps_15 : decode cX2_steps 15 = .ok (.getfield 51, 3) := dk_180 0 51 (dk_at dksX2_steps_0 15 rfl rfl)
theorem dX2_steps_18 : decode cX2_steps 18 = .ok (.iload_n 2, 1) := dk_28 (dk_at dksX2_steps_0 18 rfl rfl)
theorem dX2_steps_19 : decode cX2_steps 19 = .ok (.aload_n 0, 1) := dk_42 (dk_at dksX2_steps_0 19 rfl rfl)
theorem dX2_steps_20 : decode cX2_steps 20 = .ok (.iload_n 2, 1) := dk_28 (dk_at dksX2_steps_0 20 rfl rfl)
theorem dX2_steps_21 : decode cX2_steps 21 = .ok (.invokevirtual 347, 3) := dk_182 1 91 (dk_at dksX2_steps_0 21 rfl rfl)
theorem dX2_steps_24 : decode cX2_steps 24 = .ok (.iastore, 1) := dk_79 (dk_at dksX2_steps_1 0 rfl rfl)
theorem dX2_steps_25 : decode cX2_steps 25 = .ok (.iinc 2 1, 3) := dk_132 2 1 (dk_at dksX2_steps_1 1 rfl rfl)
theorem dX2_steps_28 : decode cX2_steps 28 = .ok (.goto (-24), 3) := dk_167 255 232 (dk_at dksX2_steps_1 4 rfl rfl)
theorem dX2_steps_31 : decode cX2_steps 31 = .ok (.iconst 0, 1) := dk_3 (dk_at dksX2_steps_1 7 rfl rfl)
theorem dX2_steps_32 : decode cX2_steps 32 = .ok (.istore_n 2, 1) := dk_61 (dk_at dksX2_steps_1 8 rfl rfl)
theorem dX2_steps_33 : decode cX2_steps 33 = .ok (.iload_n 2, 1) := dk_28 (dk_at dksX2_steps_1 9 rfl rfl)
theorem dX2_steps_34 : decode cX2_steps 34 = .ok (.aload_n 0, 1) := dk_42 (dk_at dksX2_steps_1 10 rfl rfl)
theorem dX2_steps_35 : decode cX2_steps 35 = .ok (.getfield 9, 3) := dk_180 0 9 (dk_at dksX2_steps_1 11 rfl rfl)
theorem dX2_steps_38 : decode cX2_steps 38 = .ok (.iconst 0, 1) := dk_3 (dk_at dksX2_steps_1 14 rfl rfl)
theorem dX2_steps_39 : decode cX2_steps 39 = .ok (.iaload, 1) := dk_46 (dk_at dksX2_steps_1 15 rfl rfl)
theorem dX2_steps_40 : decode cX2_steps 40 = .ok (.if_icmp .ge 78, 3) := dk_162 0 78 (dk_at dksX2_steps_1 16 rfl rfl)
theorem dX2_steps_43 : decode cX2_steps 43 = .ok (.aload_n 0, 1) := dk_42 (dk_at dksX2_steps_1 19 rfl rfl)
theorem dX2_steps_44 : decode cX2_steps 44 = .ok (.iload_n 2, 1) := dk_28 (dk_at dksX2_steps_1 20 rfl rfl)
theorem dX2_steps_45 : decode cX2_steps 45 = .ok (.iconst 0, 1) := dk_3 (dk_at dksX2_steps_1 21 rfl rfl)
theorem dX2_steps_46 : decode cX2_steps 46 = .ok (.aload_n 0, 1) := dk_42 (dk_at dksX2_steps_1 22 rfl rfl)
theorem dX2_steps_47 : decode cX2_steps 47 = .ok (.iload_n 2, 1) := dk_28 (dk_at dksX2_steps_1 23 rfl rfl)
theorem dX2_steps_48 : decode cX2_steps 48 = .ok (.iconst 0, 1) := dk_3 (dk_at dksX2_steps_2 0 rfl rfl)
theorem dX2_steps_49 : decode cX2_steps 49 = .ok (.invokevirtual 163, 3) := dk_182 0 163 (dk_at dksX2_steps_2 1 rfl rfl)
theorem dX2_steps_52 : decode cX2_steps 52 = .ok (.aload_n 0, 1) := dk_42 (dk_at dksX2_steps_2 4 rfl rfl)
theorem dX2_steps_53 : decode cX2_steps 53 = .ok (.getfield 51, 3) := dk_180 0 51 (dk_at dksX2_steps_2 5 rfl rfl)
theorem dX2_steps_56 : decode cX2_steps 56 = .ok (.iload_n 2, 1) := dk_28 (dk_at dksX2_steps_2 8 rfl rfl)
theorem dX2_steps_57 : decode cX2_steps 57 = .ok (.iaload, 1) := dk_46 (dk_at dksX2_steps_2 9 rfl rfl)
theorem dX2_steps_58 : decode cX2_steps 58 = .ok (.iadd, 1) := dk_96 (dk_at dksX2_steps_2 10 rfl rfl)
theorem dX2_steps_59 : decode cX2_steps 59 = .ok (.invokevirtual 166, 3) := dk_182 0 166 (dk_at dksX2_steps_2 11 rfl rfl)
theorem dX2_steps_62 : decode cX2_steps 62 = .ok (.aload_n 0, 1) := dk_42 (dk_at dksX2_steps_2 14 rfl rfl)
theorem dX2_steps_63 : decode cX2_steps 63 = .ok (.iload_n 2, 1) := dk_28 (dk_at dksX2_steps_2 15 rfl rfl)
theorem dX2_steps_64 : decode cX2_steps 64 = .ok (.iconst 3, 1) := dk_6 (dk_at dksX2_steps_2 16 rfl rfl)
theorem dX2_steps_65 : decode cX2_steps 65 = .ok (.aload_n 0, 1) := dk_42 (dk_at dksX2_steps_2 17 rfl rfl)
theorem dX2_steps_66 : decode cX2_steps 66 = .ok (.iload_n 2, 1) := dk_28 (dk_at dksX2_steps_2 18 rfl rfl)
theorem dX2_steps_67 : decode cX2_steps 67 = .ok (.iconst 3, 1) := dk_6 (dk_at dksX2_steps_2 19 rfl rfl)
theorem dX2_steps_68 : decode cX2_steps 68 = .ok (.invokevirtual 163, 3) := dk_182 0 163 (dk_at dksX2_steps_2 20 rfl rfl)
theorem dX2_steps_71 : decode cX2_steps 71 = .ok (.aload_n 0, 1) := dk_42 (dk_at dksX2_steps_2 23 rfl rfl)
theorem dX2_steps_72 : decode cX2_steps 72 = .ok (.getfield 51, 3) := dk_180 0 51 (dk_at dksX2_steps_3 0 rfl rfl)
theorem dX2_steps_75 : decode cX2_steps 75 = .ok (.iload_n 2, 1) := dk_28 (dk_at dksX2_steps_3 3 rfl rfl)
theorem dX2_steps_76 : decode cX2_steps 76 = .ok (.iaload, 1) := dk_46 (dk_at dksX2_steps_3 4 rfl rfl)
theorem dX2_steps_77 : decode cX2_steps 77 = .ok (.ifCond .eq 7, 3) := dk_153 0 7 (dk_at dksX2_steps_3 5 rfl rfl)
theorem dX2_steps_80 : decode cX2_steps 80 = .ok (.iconst 1, 1) := dk_4 (dk_at dksX2_steps_3 8 rfl rfl)
theorem dX2_steps_81 : decode cX2_steps 81 = .ok (.goto 4, 3) := dk_167 0 4 (dk_at dksX2_steps_3 9 rfl rfl)
theorem dX2_steps_84 : decode cX2_steps 84 = .ok (.iconst 0, 1) := dk_3 (dk_at dksX2_steps_3 12 rfl rfl)
theorem dX2_steps_85 : decode cX2_steps 85 = .ok (.invokestatic 170, 3) := dk_184 0 170 (dk_at dksX2_steps_3 13 rfl rfl)
theorem dX2_steps_88 : decode cX2_steps 88 = .ok (.iadd, 1) := dk_96 (dk_at dksX2_steps_3 16 rfl rfl)
theorem dX2_steps_89 : decode cX2_steps 89 = .ok (.invokevirtual 166, 3) := dk_182 0 166 (dk_at dksX2_steps_3 17 rfl rfl)
theorem dX2_steps_92 : decode cX2_steps 92 = .ok (.iload_n 1, 1) := dk_27 (dk_at dksX2_steps_3 20 rfl rfl)
theorem dX2_steps_93 : decode cX2_steps 93 = .ok (.aload_n 0, 1) := dk_42 (dk_at dksX2_steps_3 21 rfl rfl)
theorem dX2_steps_94 : decode cX2_steps 94 = .ok (.getfield 51, 3) := dk_180 0 51 (dk_at dksX2_steps_4 0 rfl rfl)
theorem dX2_steps_97 : decode cX2_steps 97 = .ok (.iload_n 2, 1) := dk_28 (dk_at dksX2_steps_4 3 rfl rfl)
theorem dX2_steps_98 : decode cX2_steps 98 = .ok (.iaload, 1) := dk_46 (dk_at dksX2_steps_4 4 rfl rfl)
theorem dX2_steps_99 : decode cX2_steps 99 = .ok (.ifCond .eq 7, 3) := dk_153 0 7 (dk_at dksX2_steps_4 5 rfl rfl)
theorem dX2_steps_102 : decode cX2_steps 102 = .ok (.iconst 1, 1) := dk_4 (dk_at dksX2_steps_4 8 rfl rfl)
theorem dX2_steps_103 : decode cX2_steps 103 = .ok (.goto 4, 3) := dk_167 0 4 (dk_at dksX2_steps_4 9 rfl rfl)
theorem dX2_steps_106 : decode cX2_steps 106 = .ok (.iconst 0, 1) := dk_3 (dk_at dksX2_steps_4 12 rfl rfl)
theorem dX2_steps_107 : decode cX2_steps 107 = .ok (.invokestatic 170, 3) := dk_184 0 170 (dk_at dksX2_steps_4 13 rfl rfl)
theorem dX2_steps_110 : decode cX2_steps 110 = .ok (.iadd, 1) := dk_96 (dk_at dksX2_steps_4 16 rfl rfl)
theorem dX2_steps_111 : decode cX2_steps 111 = .ok (.istore_n 1, 1) := dk_60 (dk_at dksX2_steps_4 17 rfl rfl)
theorem dX2_steps_112 : decode cX2_steps 112 = .ok (.iinc 2 1, 3) := dk_132 2 1 (dk_at dksX2_steps_4 18 rfl rfl)
theorem dX2_steps_115 : decode cX2_steps 115 = .ok (.goto (-82), 3) := dk_167 255 174 (dk_at dksX2_steps_4 21 rfl rfl)
theorem dX2_steps_118 : decode cX2_steps 118 = .ok (.aload_n 0, 1) := dk_42 (dk_at dksX2_steps_5 0 rfl rfl)
theorem dX2_steps_119 : decode cX2_steps 119 = .ok (.getfield 9, 3) := dk_180 0 9 (dk_at dksX2_steps_5 1 rfl rfl)
theorem dX2_steps_122 : decode cX2_steps 122 = .ok (.bipush 6, 2) := dk_16 6 (dk_at dksX2_steps_5 4 rfl rfl)
theorem dX2_steps_124 : decode cX2_steps 124 = .ok (.dup2, 1) := dk_92 (dk_at dksX2_steps_5 6 rfl rfl)
theorem dX2_steps_125 : decode cX2_steps 125 = .ok (.iaload, 1) := dk_46 (dk_at dksX2_steps_5 7 rfl rfl)
theorem dX2_steps_126 : decode cX2_steps 126 = .ok (.iconst 1, 1) := dk_4 (dk_at dksX2_steps_5 8 rfl rfl)
theorem dX2_steps_127 : decode cX2_steps 127 = .ok (.iadd, 1) := dk_96 (dk_at dksX2_steps_5 9 rfl rfl)
theorem dX2_steps_128 : decode cX2_steps 128 = .ok (.iastore, 1) := dk_79 (dk_at dksX2_steps_5 10 rfl rfl)
theorem dX2_steps_129 : decode cX2_steps 129 = .ok (.aload_n 0, 1) := dk_42 (dk_at dksX2_steps_5 11 rfl rfl)
theorem dX2_steps_130 : decode cX2_steps 130 = .ok (.getfield 9, 3) := dk_180 0 9 (dk_at dksX2_steps_5 12 rfl rfl)
theorem dX2_steps_133 : decode cX2_steps 133 = .ok (.iconst 1, 1) := dk_4 (dk_at dksX2_steps_5 15 rfl rfl)
theorem dX2_steps_134 : decode cX2_steps 134 = .ok (.dup2, 1) := dk_92 (dk_at dksX2_steps_5 16 rfl rfl)
theorem dX2_steps_135 : decode cX2_steps 135 = .ok (.iaload, 1) := dk_46 (dk_at dksX2_steps_5 17 rfl rfl)
theorem dX2_steps_136 : decode cX2_steps 136 = .ok (.iload_n 1, 1) := dk_27 (dk_at dksX2_steps_5 18 rfl rfl)
theorem dX2_steps_137 : decode cX2_steps 137 = .ok (.iadd, 1) := dk_96 (dk_at dksX2_steps_5 19 rfl rfl)
theorem dX2_steps_138 : decode cX2_steps 138 = .ok (.iastore, 1) := dk_79 (dk_at dksX2_steps_5 20 rfl rfl)
theorem dX2_steps_139 : decode cX2_steps 139 = .ok (.iload_n 1, 1) := dk_27 (dk_at dksX2_steps_5 21 rfl rfl)
theorem dX2_steps_140 : decode cX2_steps 140 = .ok (.ireturn, 1) := dk_172 (dk_at dksX2_steps_5 22 rfl rfl)
abbrev cX2_stepsMany : ByteArray := prog_10_method_108_code
def yX2_stepsMany : MethodName := ⟨RX2, "stepsMany", "(I)I"⟩
def dkwX2_stepsMany_0 : List UInt8 := [3, 61, 3, 62, 29, 27, 162, 0, 16, 28, 42, 182, 1, 94, 96, 61, 132, 3, 1, 167, 255, 241, 28, 172]
abbrev dktX2_stepsMany_0 : List UInt8 := dkwX2_stepsMany_0 ++ []
theorem dksX2_stepsMany_0 : cX2_stepsMany.data.toList.drop 0 = dktX2_stepsMany_0 := by decide +kernel
theorem dX2_stepsMany_0 : decode cX2_stepsMany 0 = .ok (.iconst 0, 1) := dk_3 (dk_at dksX2_stepsMany_0 0 rfl rfl)
theorem dX2_stepsMany_1 : decode cX2_stepsMany 1 = .ok (.istore_n 2, 1) := dk_61 (dk_at dksX2_stepsMany_0 1 rfl rfl)
theorem dX2_stepsMany_2 : decode cX2_stepsMany 2 = .ok (.iconst 0, 1) := dk_3 (dk_at dksX2_stepsMany_0 2 rfl rfl)
theorem dX2_stepsMany_3 : decode cX2_stepsMany 3 = .ok (.istore_n 3, 1) := dk_62 (dk_at dksX2_stepsMany_0 3 rfl rfl)
theorem dX2_stepsMany_4 : decode cX2_stepsMany 4 = .ok (.iload_n 3, 1) := dk_29 (dk_at dksX2_stepsMany_0 4 rfl rfl)
theorem dX2_stepsMany_5 : decode cX2_stepsMany 5 = .ok (.iload_n 1, 1) := dk_27 (dk_at dksX2_stepsMany_0 5 rfl rfl)
theorem dX2_stepsMany_6 : decode cX2_stepsMany 6 = .ok (.if_icmp .ge 16, 3) := dk_162 0 16 (dk_at dksX2_stepsMany_0 6 rfl rfl)
theorem dX2_stepsMany_9 : decode cX2_stepsMany 9 = .ok (.iload_n 2, 1) := dk_28 (dk_at dksX2_stepsMany_0 9 rfl rfl)
theorem dX2_stepsMany_10 : decode cX2_stepsMany 10 = .ok (.aload_n 0, 1) := dk_42 (dk_at dksX2_stepsMany_0 10 rfl rfl)
theorem dX2_stepsMany_11 : decode cX2_stepsMany 11 = .ok (.invokevirtual 350, 3) := dk_182 1 94 (dk_at dksX2_stepsMany_0 11 rfl rfl)
theorem dX2_stepsMany_14 : decode cX2_stepsMany 14 = .ok (.iadd, 1) := dk_96 (dk_at dksX2_stepsMany_0 14 rfl rfl)
theorem dX2_stepsMany_15 : decode cX2_stepsMany 15 = .ok (.istore_n 2, 1) := dk_61 (dk_at dksX2_stepsMany_0 15 rfl rfl)
theorem dX2_stepsMany_16 : decode cX2_stepsMany 16 = .ok (.iinc 3 1, 3) := dk_132 3 1 (dk_at dksX2_stepsMany_0 16 rfl rfl)
theorem dX2_stepsMany_19 : decode cX2_stepsMany 19 = .ok (.goto (-15), 3) := dk_167 255 241 (dk_at dksX2_stepsMany_0 19 rfl rfl)
theorem dX2_stepsMany_22 : decode cX2_stepsMany 22 = .ok (.iload_n 2, 1) := dk_28 (dk_at dksX2_stepsMany_0 22 rfl rfl)
theorem dX2_stepsMany_23 : decode cX2_stepsMany 23 = .ok (.ireturn, 1) := dk_172 (dk_at dksX2_stepsMany_0 23 rfl rfl)
abbrev cX2_back : ByteArray := prog_10_method_112_code
def yX2_back : MethodName := ⟨RX2, "back", "(I)I"⟩
def dkwX2_back_0 : List UInt8 := [42, 180, 0, 13, 3, 42, 180, 0, 9, 3, 184, 0, 149, 27, 172]
abbrev dktX2_back_0 : List UInt8 := dkwX2_back_0 ++ []
theorem dksX2_back_0 : cX2_back.data.toList.drop 0 = dktX2_back_0 := by decide +kernel
theorem dX2_back_0 : decode cX2_back 0 = .ok (.aload_n 0, 1) := dk_42 (dk_at dksX2_back_0 0 rfl rfl)
theorem dX2_back_1 : decode cX2_back 1 = .ok (.getfield 13, 3) := dk_180 0 13 (dk_at dksX2_back_0 1 rfl rfl)
theorem dX2_back_4 : decode cX2_back 4 = .ok (.iconst 0, 1) := dk_3 (dk_at dksX2_back_0 4 rfl rfl)
theorem dX2_back_5 : decode cX2_back 5 = .ok (.aload_n 0, 1) := dk_42 (dk_at dksX2_back_0 5 rfl rfl)
theorem dX2_back_6 : decode cX2_back 6 = .ok (.getfield 9, 3) := dk_180 0 9 (dk_at dksX2_back_0 6 rfl rfl)
theorem dX2_back_9 : decode cX2_back 9 = .ok (.iconst 0, 1) := dk_3 (dk_at dksX2_back_0 9 rfl rfl)
theorem dX2_back_10 : decode cX2_back 10 = .ok (.invokestatic 149, 3) := dk_184 0 149 (dk_at dksX2_back_0 10 rfl rfl)
theorem dX2_back_13 : decode cX2_back 13 = .ok (.iload_n 1, 1) := dk_27 (dk_at dksX2_back_0 13 rfl rfl)
theorem dX2_back_14 : decode cX2_back 14 = .ok (.ireturn, 1) := dk_172 (dk_at dksX2_back_0 14 rfl rfl)
abbrev cX2_placeIn : ByteArray := prog_10_method_114_code
def yX2_placeIn : MethodName := ⟨RX2, "placeIn", "(II)I"⟩
def dkwX2_placeIn_1 : List UInt8 := [182, 1, 100, 42, 28, 182, 1, 103, 62, 42, 42, 27, 3, 182, 0, 163, 182, 1, 106, 172]
abbrev dktX2_placeIn_1 : List UInt8 := dkwX2_placeIn_1 ++ []
def dkwX2_placeIn_0 : List UInt8 := [42, 42, 180, 0, 156, 42, 27, 182, 0, 210, 28, 184, 1, 97, 182, 0, 60, 154, 0, 5, 3, 172, 42]
abbrev dktX2_placeIn_0 : List UInt8 := dkwX2_placeIn_0 ++ dktX2_placeIn_1
theorem dksX2_placeIn_0 : cX2_placeIn.data.toList.drop 0 = dktX2_placeIn_0 := by decide +kernel
theorem dksX2_placeIn_1 : cX2_placeIn.data.toList.drop 23 = dktX2_placeIn_1 := dk_seg dksX2_placeIn_0 23 rfl rfl
theorem dX2_placeIn_0 : decode cX2_placeIn 0 = .ok (.aload_n 0, 1) := dk_42 (dk_at dksX2_placeIn_0 0 rfl rfl)
theorem dX2_placeIn_1 : decode cX2_placeIn 1 = .ok (.aload_n 0, 1) := dk_42 (dk_at dksX2_placeIn_0 1 rfl rfl)
theorem dX2_placeIn_2 : decode cX2_placeIn 2 = .ok (.getfield 156, 3) := dk_180 0 156 (dk_at dksX2_placeIn_0 2 rfl rfl)
theorem dX2_placeIn_5 : decode cX2_placeIn 5 = .ok (.aload_n 0, 1) := dk_42 (dk_at dksX2_placeIn_0 5 rfl rfl)
theorem dX2_placeIn_6 : decode cX2_placeIn 6 = .ok (.iload_n 1, 1) := dk_27 (dk_at dksX2_placeIn_0 6 rfl rfl)
theorem dX2_placeIn_7 : decode cX2_placeIn 7 = .ok (.invokevirtual 210, 3) := dk_182 0 210 (dk_at dksX2_placeIn_0 7 rfl rfl)
theorem dX2_placeIn_10 : decode cX2_placeIn 10 = .ok (.iload_n 2, 1) := dk_28 (dk_at dksX2_placeIn_0 10 rfl rfl)
theorem dX2_placeIn_11 : decode cX2_placeIn 11 = .ok (.invokestatic 353, 3) := dk_184 1 97 (dk_at dksX2_placeIn_0 11 rfl rfl)
theorem dX2_placeIn_14 : decode cX2_placeIn 14 = .ok (.invokevirtual 60, 3) := dk_182 0 60 (dk_at dksX2_placeIn_0 14 rfl rfl)
theorem dX2_placeIn_17 : decode cX2_placeIn 17 = .ok (.ifCond .ne 5, 3) := dk_154 0 5 (dk_at dksX2_placeIn_0 17 rfl rfl)
theorem dX2_placeIn_20 : decode cX2_placeIn 20 = .ok (.iconst 0, 1) := dk_3 (dk_at dksX2_placeIn_0 20 rfl rfl)
theorem dX2_placeIn_21 : decode cX2_placeIn 21 = .ok (.ireturn, 1) := dk_172 (dk_at dksX2_placeIn_0 21 rfl rfl)
theorem dX2_placeIn_22 : decode cX2_placeIn 22 = .ok (.aload_n 0, 1) := dk_42 (dk_at dksX2_placeIn_0 22 rfl rfl)
theorem dX2_placeIn_23 : decode cX2_placeIn 23 = .ok (.invokevirtual 356, 3) := dk_182 1 100 (dk_at dksX2_placeIn_1 0 rfl rfl)
theorem dX2_placeIn_26 : decode cX2_placeIn 26 = .ok (.aload_n 0, 1) := dk_42 (dk_at dksX2_placeIn_1 3 rfl rfl)
theorem dX2_placeIn_27 : decode cX2_placeIn 27 = .ok (.iload_n 2, 1) := dk_28 (dk_at dksX2_placeIn_1 4 rfl rfl)
theorem dX2_placeIn_28 : decode cX2_placeIn 28 = .ok (.invokevirtual 359, 3) := dk_182 1 103 (dk_at dksX2_placeIn_1 5 rfl rfl)
theorem dX2_placeIn_31 : decode cX2_placeIn 31 = .ok (.istore_n 3, 1) := dk_62 (dk_at dksX2_placeIn_1 8 rfl rfl)
theorem dX2_placeIn_32 : decode cX2_placeIn 32 = .ok (.aload_n 0, 1) := dk_42 (dk_at dksX2_placeIn_1 9 rfl rfl)
theorem dX2_placeIn_33 : decode cX2_placeIn 33 = .ok (.aload_n 0, 1) := dk_42 (dk_at dksX2_placeIn_1 10 rfl rfl)
theorem dX2_placeIn_34 : decode cX2_placeIn 34 = .ok (.iload_n 1, 1) := dk_27 (dk_at dksX2_placeIn_1 11 rfl rfl)
theorem dX2_placeIn_35 : decode cX2_placeIn 35 = .ok (.iconst 0, 1) := dk_3 (dk_at dksX2_placeIn_1 12 rfl rfl)
theorem dX2_placeIn_36 : decode cX2_placeIn 36 = .ok (.invokevirtual 163, 3) := dk_182 0 163 (dk_at dksX2_placeIn_1 13 rfl rfl)
theorem dX2_placeIn_39 : decode cX2_placeIn 39 = .ok (.invokevirtual 362, 3) := dk_182 1 106 (dk_at dksX2_placeIn_1 16 rfl rfl)
theorem dX2_placeIn_42 : decode cX2_placeIn 42 = .ok (.ireturn, 1) := dk_172 (dk_at dksX2_placeIn_1 19 rfl rfl)
abbrev cX2_movesIn : ByteArray := prog_10_method_115_code
def yX2_movesIn : MethodName := ⟨RX2, "movesIn", "(I)I"⟩
def dkwX2_movesIn_1 : List UInt8 := [182, 1, 103, 182, 1, 106, 172]
abbrev dktX2_movesIn_1 : List UInt8 := dkwX2_movesIn_1 ++ []
def dkwX2_movesIn_0 : List UInt8 := [42, 42, 180, 0, 156, 27, 184, 1, 97, 182, 0, 193, 154, 0, 5, 3, 172, 42, 182, 1, 100, 42, 42, 27]
abbrev dktX2_movesIn_0 : List UInt8 := dkwX2_movesIn_0 ++ dktX2_movesIn_1
theorem dksX2_movesIn_0 : cX2_movesIn.data.toList.drop 0 = dktX2_movesIn_0 := by decide +kernel
theorem dksX2_movesIn_1 : cX2_movesIn.data.toList.drop 24 = dktX2_movesIn_1 := dk_seg dksX2_movesIn_0 24 rfl rfl
theorem dX2_movesIn_0 : decode cX2_movesIn 0 = .ok (.aload_n 0, 1) := dk_42 (dk_at dksX2_movesIn_0 0 rfl rfl)
theorem dX2_movesIn_1 : decode cX2_movesIn 1 = .ok (.aload_n 0, 1) := dk_42 (dk_at dksX2_movesIn_0 1 rfl rfl)
theorem dX2_movesIn_2 : decode cX2_movesIn 2 = .ok (.getfield 156, 3) := dk_180 0 156 (dk_at dksX2_movesIn_0 2 rfl rfl)
theorem dX2_movesIn_5 : decode cX2_movesIn 5 = .ok (.iload_n 1, 1) := dk_27 (dk_at dksX2_movesIn_0 5 rfl rfl)
theorem dX2_movesIn_6 : decode cX2_movesIn 6 = .ok (.invokestatic 353, 3) := dk_184 1 97 (dk_at dksX2_movesIn_0 6 rfl rfl)
theorem dX2_movesIn_9 : decode cX2_movesIn 9 = .ok (.invokevirtual 193, 3) := dk_182 0 193 (dk_at dksX2_movesIn_0 9 rfl rfl)
theorem dX2_movesIn_12 : decode cX2_movesIn 12 = .ok (.ifCond .ne 5, 3) := dk_154 0 5 (dk_at dksX2_movesIn_0 12 rfl rfl)
theorem dX2_movesIn_15 : decode cX2_movesIn 15 = .ok (.iconst 0, 1) := dk_3 (dk_at dksX2_movesIn_0 15 rfl rfl)
theorem dX2_movesIn_16 : decode cX2_movesIn 16 = .ok (.ireturn, 1) := dk_172 (dk_at dksX2_movesIn_0 16 rfl rfl)
theorem dX2_movesIn_17 : decode cX2_movesIn 17 = .ok (.aload_n 0, 1) := dk_42 (dk_at dksX2_movesIn_0 17 rfl rfl)
theorem dX2_movesIn_18 : decode cX2_movesIn 18 = .ok (.invokevirtual 356, 3) := dk_182 1 100 (dk_at dksX2_movesIn_0 18 rfl rfl)
theorem dX2_movesIn_21 : decode cX2_movesIn 21 = .ok (.aload_n 0, 1) := dk_42 (dk_at dksX2_movesIn_0 21 rfl rfl)
theorem dX2_movesIn_22 : decode cX2_movesIn 22 = .ok (.aload_n 0, 1) := dk_42 (dk_at dksX2_movesIn_0 22 rfl rfl)
theorem dX2_movesIn_23 : decode cX2_movesIn 23 = .ok (.iload_n 1, 1) := dk_27 (dk_at dksX2_movesIn_0 23 rfl rfl)
theorem dX2_movesIn_24 : decode cX2_movesIn 24 = .ok (.invokevirtual 359, 3) := dk_182 1 103 (dk_at dksX2_movesIn_1 0 rfl rfl)
theorem dX2_movesIn_27 : decode cX2_movesIn 27 = .ok (.invokevirtual 362, 3) := dk_182 1 106 (dk_at dksX2_movesIn_1 3 rfl rfl)
theorem dX2_movesIn_30 : decode cX2_movesIn 30 = .ok (.ireturn, 1) := dk_172 (dk_at dksX2_movesIn_1 6 rfl rfl)
abbrev cX2_isStill : ByteArray := prog_10_method_116_code
def yX2_isStill : MethodName := ⟨RX2, "isStill", "()Z"⟩
def dkwX2_isStill_1 : List UInt8 := [132, 1, 1, 167, 255, 233, 4, 172]
abbrev dktX2_isStill_1 : List UInt8 := dkwX2_isStill_1 ++ []
def dkwX2_isStill_0 : List UInt8 := [3, 60, 27, 42, 180, 0, 9, 3, 46, 162, 0, 19, 42, 27, 182, 1, 91, 153, 0, 5, 3, 172]
abbrev dktX2_isStill_0 : List UInt8 := dkwX2_isStill_0 ++ dktX2_isStill_1
theorem dksX2_isStill_0 : cX2_isStill.data.toList.drop 0 = dktX2_isStill_0 := by decide +kernel
theorem dksX2_isStill_1 : cX2_isStill.data.toList.drop 22 = dktX2_isStill_1 := dk_seg dksX2_isStill_0 22 rfl rfl
theorem dX2_isStill_0 : decode cX2_isStill 0 = .ok (.iconst 0, 1) := dk_3 (dk_at dksX2_isStill_0 0 rfl rfl)
theorem dX2_isStill_1 : decode cX2_isStill 1 = .ok (.istore_n 1, 1) := dk_60 (dk_at dksX2_isStill_0 1 rfl rfl)
theorem dX2_isStill_2 : decode cX2_isStill 2 = .ok (.iload_n 1, 1) := dk_27 (dk_at dksX2_isStill_0 2 rfl rfl)
theorem dX2_isStill_3 : decode cX2_isStill 3 = .ok (.aload_n 0, 1) := dk_42 (dk_at dksX2_isStill_0 3 rfl rfl)
theorem dX2_isStill_4 : decode cX2_isStill 4 = .ok (.getfield 9, 3) := dk_180 0 9 (dk_at dksX2_isStill_0 4 rfl rfl)
theorem dX2_isStill_7 : decode cX2_isStill 7 = .ok (.iconst 0, 1) := dk_3 (dk_at dksX2_isStill_0 7 rfl rfl)
theorem dX2_isStill_8 : decode cX2_isStill 8 = .ok (.iaload, 1) := dk_46 (dk_at dksX2_isStill_0 8 rfl rfl)
theorem dX2_isStill_9 : decode cX2_isStill 9 = .ok (.if_icmp .ge 19, 3) := dk_162 0 19 (dk_at dksX2_isStill_0 9 rfl rfl)
theorem dX2_isStill_12 : decode cX2_isStill 12 = .ok (.aload_n 0, 1) := dk_42 (dk_at dksX2_isStill_0 12 rfl rfl)
theorem dX2_isStill_13 : decode cX2_isStill 13 = .ok (.iload_n 1, 1) := dk_27 (dk_at dksX2_isStill_0 13 rfl rfl)
theorem dX2_isStill_14 : decode cX2_isStill 14 = .ok (.invokevirtual 347, 3) := dk_182 1 91 (dk_at dksX2_isStill_0 14 rfl rfl)
theorem dX2_isStill_17 : decode cX2_isStill 17 = .ok (.ifCond .eq 5, 3) := dk_153 0 5 (dk_at dksX2_isStill_0 17 rfl rfl)
theorem dX2_isStill_20 : decode cX2_isStill 20 = .ok (.iconst 0, 1) := dk_3 (dk_at dksX2_isStill_0 20 rfl rfl)
theorem dX2_isStill_21 : decode cX2_isStill 21 = .ok (.ireturn, 1) := dk_172 (dk_at dksX2_isStill_0 21 rfl rfl)
theorem dX2_isStill_22 : decode cX2_isStill 22 = .ok (.iinc 1 1, 3) := dk_132 1 1 (dk_at dksX2_isStill_1 0 rfl rfl)
theorem dX2_isStill_25 : decode cX2_isStill 25 = .ok (.goto (-23), 3) := dk_167 255 233 (dk_at dksX2_isStill_1 3 rfl rfl)
theorem dX2_isStill_28 : decode cX2_isStill 28 = .ok (.iconst 1, 1) := dk_4 (dk_at dksX2_isStill_1 6 rfl rfl)
theorem dX2_isStill_29 : decode cX2_isStill 29 = .ok (.ireturn, 1) := dk_172 (dk_at dksX2_isStill_1 7 rfl rfl)
abbrev cX2_stillIn : ByteArray := prog_10_method_117_code
def yX2_stillIn : MethodName := ⟨RX2, "stillIn", "()I"⟩
def dkwX2_stillIn_2 : List UInt8 := [167, 255, 227, 42, 2, 182, 1, 106, 172]
abbrev dktX2_stillIn_2 : List UInt8 := dkwX2_stillIn_2 ++ []
def dkwX2_stillIn_1 : List UInt8 := [182, 1, 109, 153, 0, 9, 42, 28, 182, 1, 106, 172, 27, 42, 182, 1, 94, 96, 60, 132, 2, 1]
abbrev dktX2_stillIn_1 : List UInt8 := dkwX2_stillIn_1 ++ dktX2_stillIn_2
def dkwX2_stillIn_0 : List UInt8 := [42, 182, 0, 229, 154, 0, 5, 3, 172, 42, 182, 1, 100, 3, 60, 3, 61, 28, 16, 50, 163, 0, 29, 42]
abbrev dktX2_stillIn_0 : List UInt8 := dkwX2_stillIn_0 ++ dktX2_stillIn_1
theorem dksX2_stillIn_0 : cX2_stillIn.data.toList.drop 0 = dktX2_stillIn_0 := by decide +kernel
theorem dksX2_stillIn_1 : cX2_stillIn.data.toList.drop 24 = dktX2_stillIn_1 := dk_seg dksX2_stillIn_0 24 rfl rfl
theorem dksX2_stillIn_2 : cX2_stillIn.data.toList.drop 46 = dktX2_stillIn_2 := dk_seg dksX2_stillIn_1 22 rfl rfl
theorem dX2_stillIn_0 : decode cX2_stillIn 0 = .ok (.aload_n 0, 1) := dk_42 (dk_at dksX2_stillIn_0 0 rfl rfl)
theorem dX2_stillIn_1 : decode cX2_stillIn 1 = .ok (.invokevirtual 229, 3) := dk_182 0 229 (dk_at dksX2_stillIn_0 1 rfl rfl)
theorem dX2_stillIn_4 : decode cX2_stillIn 4 = .ok (.ifCond .ne 5, 3) := dk_154 0 5 (dk_at dksX2_stillIn_0 4 rfl rfl)
theorem dX2_stillIn_7 : decode cX2_stillIn 7 = .ok (.iconst 0, 1) := dk_3 (dk_at dksX2_stillIn_0 7 rfl rfl)
theorem dX2_stillIn_8 : decode cX2_stillIn 8 = .ok (.ireturn, 1) := dk_172 (dk_at dksX2_stillIn_0 8 rfl rfl)
theorem dX2_stillIn_9 : decode cX2_stillIn 9 = .ok (.aload_n 0, 1) := dk_42 (dk_at dksX2_stillIn_0 9 rfl rfl)
theorem dX2_stillIn_10 : decode cX2_stillIn 10 = .ok (.invokevirtual 356, 3) := dk_182 1 100 (dk_at dksX2_stillIn_0 10 rfl rfl)
theorem dX2_stillIn_13 : decode cX2_stillIn 13 = .ok (.iconst 0, 1) := dk_3 (dk_at dksX2_stillIn_0 13 rfl rfl)
theorem dX2_stillIn_14 : decode cX2_stillIn 14 = .ok (.istore_n 1, 1) := dk_60 (dk_at dksX2_stillIn_0 14 rfl rfl)
theorem dX2_stillIn_15 : decode cX2_stillIn 15 = .ok (.iconst 0, 1) := dk_3 (dk_at dksX2_stillIn_0 15 rfl rfl)
theorem dX2_stillIn_16 : decode cX2_stillIn 16 = .ok (.istore_n 2, 1) := dk_61 (dk_at dksX2_stillIn_0 16 rfl rfl)
theorem dX2_stillIn_17 : decode cX2_stillIn 17 = .ok (.iload_n 2, 1) := dk_28 (dk_at dksX2_stillIn_0 17 rfl rfl)
theorem dX2_stillIn_18 : decode cX2_stillIn 18 = .ok (.bipush 50, 2) := dk_16 50 (dk_at dksX2_stillIn_0 18 rfl rfl)
theorem dX2_stillIn_20 : decode cX2_stillIn 20 = .ok (.if_icmp .gt 29, 3) := dk_163 0 29 (dk_at dksX2_stillIn_0 20 rfl rfl)
theorem dX2_stillIn_23 : decode cX2_stillIn 23 = .ok (.aload_n 0, 1) := dk_42 (dk_at dksX2_stillIn_0 23 rfl rfl)
theorem dX2_stillIn_24 : decode cX2_stillIn 24 = .ok (.invokevirtual 365, 3) := dk_182 1 109 (dk_at dksX2_stillIn_1 0 rfl rfl)
theorem dX2_stillIn_27 : decode cX2_stillIn 27 = .ok (.ifCond .eq 9, 3) := dk_153 0 9 (dk_at dksX2_stillIn_1 3 rfl rfl)
theorem dX2_stillIn_30 : decode cX2_stillIn 30 = .ok (.aload_n 0, 1) := dk_42 (dk_at dksX2_stillIn_1 6 rfl rfl)
theorem dX2_stillIn_31 : decode cX2_stillIn 31 = .ok (.iload_n 2, 1) := dk_28 (dk_at dksX2_stillIn_1 7 rfl rfl)
theorem dX2_stillIn_32 : decode cX2_stillIn 32 = .ok (.invokevirtual 362, 3) := dk_182 1 106 (dk_at dksX2_stillIn_1 8 rfl rfl)
theorem dX2_stillIn_35 : decode cX2_stillIn 35 = .ok (.ireturn, 1) := dk_172 (dk_at dksX2_stillIn_1 11 rfl rfl)
theorem dX2_stillIn_36 : decode cX2_stillIn 36 = .ok (.iload_n 1, 1) := dk_27 (dk_at dksX2_stillIn_1 12 rfl rfl)
theorem dX2_stillIn_37 : decode cX2_stillIn 37 = .ok (.aload_n 0, 1) := dk_42 (dk_at dksX2_stillIn_1 13 rfl rfl)
theorem dX2_stillIn_38 : decode cX2_stillIn 38 = .ok (.invokevirtual 350, 3) := dk_182 1 94 (dk_at dksX2_stillIn_1 14 rfl rfl)
theorem dX2_stillIn_41 : decode cX2_stillIn 41 = .ok (.iadd, 1) := dk_96 (dk_at dksX2_stillIn_1 17 rfl rfl)
theorem dX2_stillIn_42 : decode cX2_stillIn 42 = .ok (.istore_n 1, 1) := dk_60 (dk_at dksX2_stillIn_1 18 rfl rfl)
theorem dX2_stillIn_43 : decode cX2_stillIn 43 = .ok (.iinc 2 1, 3) := dk_132 2 1 (dk_at dksX2_stillIn_1 19 rfl rfl)
theorem dX2_stillIn_46 : decode cX2_stillIn 46 = .ok (.goto (-29), 3) := dk_167 255 227 (dk_at dksX2_stillIn_2 0 rfl rfl)
theorem dX2_stillIn_49 : decode cX2_stillIn 49 = .ok (.aload_n 0, 1) := dk_42 (dk_at dksX2_stillIn_2 3 rfl rfl)
theorem dX2_stillIn_50 : decode cX2_stillIn 50 = .ok (.iconst (-1), 1) := dk_2 (dk_at dksX2_stillIn_2 4 rfl rfl)
theorem dX2_stillIn_51 : decode cX2_stillIn 51 = .ok (.invokevirtual 362, 3) := dk_182 1 106 (dk_at dksX2_stillIn_2 5 rfl rfl)
theorem dX2_stillIn_54 : decode cX2_stillIn 54 = .ok (.ireturn, 1) := dk_172 (dk_at dksX2_stillIn_2 8 rfl rfl)
abbrev cX2_orderFor : ByteArray := prog_10_method_118_code
def yX2_orderFor : MethodName := ⟨RX2, "orderFor", "(II)I"⟩
def dkwX2_orderFor_3 : List UInt8 := [167, 255, 232, 2, 172]
abbrev dktX2_orderFor_3 : List UInt8 := dkwX2_orderFor_3 ++ []
def dkwX2_orderFor_2 : List UInt8 := [7, 163, 0, 24, 42, 27, 21, 5, 182, 1, 47, 41, 152, 157, 0, 6, 21, 5, 172, 132, 5, 1]
abbrev dktX2_orderFor_2 : List UInt8 := dkwX2_orderFor_2 ++ dktX2_orderFor_3
def dkwX2_orderFor_1 : List UInt8 := [167, 0, 4, 3, 182, 0, 193, 154, 0, 5, 3, 172, 28, 135, 20, 1, 89, 111, 74, 3, 54, 5, 21, 5]
abbrev dktX2_orderFor_1 : List UInt8 := dkwX2_orderFor_1 ++ dktX2_orderFor_2
def dkwX2_orderFor_0 : List UInt8 := [42, 42, 180, 0, 156, 27, 184, 0, 213, 153, 0, 18, 28, 3, 19, 1, 112, 184, 0, 77, 153, 0, 7, 4]
abbrev dktX2_orderFor_0 : List UInt8 := dkwX2_orderFor_0 ++ dktX2_orderFor_1
theorem dksX2_orderFor_0 : cX2_orderFor.data.toList.drop 0 = dktX2_orderFor_0 := by decide +kernel
theorem dksX2_orderFor_1 : cX2_orderFor.data.toList.drop 24 = dktX2_orderFor_1 := dk_seg dksX2_orderFor_0 24 rfl rfl
theorem dksX2_orderFor_2 : cX2_orderFor.data.toList.drop 48 = dktX2_orderFor_2 := dk_seg dksX2_orderFor_1 24 rfl rfl
theorem dksX2_orderFor_3 : cX2_orderFor.data.toList.drop 70 = dktX2_orderFor_3 := dk_seg dksX2_orderFor_2 22 rfl rfl
theorem dX2_orderFor_0 : decode cX2_orderFor 0 = .ok (.aload_n 0, 1) := dk_42 (dk_at dksX2_orderFor_0 0 rfl rfl)
theorem dX2_orderFor_1 : decode cX2_orderFor 1 = .ok (.aload_n 0, 1) := dk_42 (dk_at dksX2_orderFor_0 1 rfl rfl)
theorem dX2_orderFor_2 : decode cX2_orderFor 2 = .ok (.getfield 156, 3) := dk_180 0 156 (dk_at dksX2_orderFor_0 2 rfl rfl)
theorem dX2_orderFor_5 : decode cX2_orderFor 5 = .ok (.iload_n 1, 1) := dk_27 (dk_at dksX2_orderFor_0 5 rfl rfl)
theorem dX2_orderFor_6 : decode cX2_orderFor 6 = .ok (.invokestatic 213, 3) := dk_184 0 213 (dk_at dksX2_orderFor_0 6 rfl rfl)
theorem dX2_orderFor_9 : decode cX2_orderFor 9 = .ok (.ifCond .eq 18, 3) := dk_153 0 18 (dk_at dksX2_orderFor_0 9 rfl rfl)
theorem dX2_orderFor_12 : decode cX2_orderFor 12 = .ok (.iload_n 2, 1) := dk_28 (dk_at dksX2_orderFor_0 12 rfl rfl)
theorem dX2_orderFor_13 : decode cX2_orderFor 13 = .ok (.iconst 0, 1) := dk_3 (dk_at dksX2_orderFor_0 13 rfl rfl)
theorem dX2_orderFor_14 : decode cX2_orderFor 14 = .ok (.ldc_w 368, 3) := dk_19 1 112 (dk_at dksX2_orderFor_0 14 rfl rfl)
theorem dX2_orderFor_17 : decode cX2_orderFor 17 = .ok (.invokestatic 77, 3) := dk_184 0 77 (dk_at dksX2_orderFor_0 17 rfl rfl)
theorem dX2_orderFor_20 : decode cX2_orderFor 20 = .ok (.ifCond .eq 7, 3) := dk_153 0 7 (dk_at dksX2_orderFor_0 20 rfl rfl)
theorem dX2_orderFor_23 : decode cX2_orderFor 23 = .ok (.iconst 1, 1) := dk_4 (dk_at dksX2_orderFor_0 23 rfl rfl)
theorem dX2_orderFor_24 : decode cX2_orderFor 24 = .ok (.goto 4, 3) := dk_167 0 4 (dk_at dksX2_orderFor_1 0 rfl rfl)
theorem dX2_orderFor_27 : decode cX2_orderFor 27 = .ok (.iconst 0, 1) := dk_3 (dk_at dksX2_orderFor_1 3 rfl rfl)
theorem dX2_orderFor_28 : decode cX2_orderFor 28 = .ok (.invokevirtual 193, 3) := dk_182 0 193 (dk_at dksX2_orderFor_1 4 rfl rfl)
theorem dX2_orderFor_31 : decode cX2_orderFor 31 = .ok (.ifCond .ne 5, 3) := dk_154 0 5 (dk_at dksX2_orderFor_1 7 rfl rfl)
theorem dX2_orderFor_34 : decode cX2_orderFor 34 = .ok (.iconst 0, 1) := dk_3 (dk_at dksX2_orderFor_1 10 rfl rfl)
theorem dX2_orderFor_35 : decode cX2_orderFor 35 = .ok (.ireturn, 1) := dk_172 (dk_at dksX2_orderFor_1 11 rfl rfl)
theorem dX2_orderFor_36 : decode cX2_orderFor 36 = .ok (.iload_n 2, 1) := dk_28 (dk_at dksX2_orderFor_1 12 rfl rfl)
theorem dX2_orderFor_37 : decode cX2_orderFor 37 = .ok (.i2d, 1) := dk_135 (dk_at dksX2_orderFor_1 13 rfl rfl)
theorem dX2_orderFor_38 : decode cX2_orderFor 38 = .ok (.ldc2_w 345, 3) := dk_20 1 89 (dk_at dksX2_orderFor_1 14 rfl rfl)
theorem dX2_orderFor_41 : decode cX2_orderFor 41 = .ok (.ddiv, 1) := dk_111 (dk_at dksX2_orderFor_1 17 rfl rfl)
theorem dX2_orderFor_42 : decode cX2_orderFor 42 = .ok (.dstore_n 3, 1) := dk_74 (dk_at dksX2_orderFor_1 18 rfl rfl)
theorem dX2_orderFor_43 : decode cX2_orderFor 43 = .ok (.iconst 0, 1) := dk_3 (dk_at dksX2_orderFor_1 19 rfl rfl)
theorem dX2_orderFor_44 : decode cX2_orderFor 44 = .ok (.istore 5, 2) := dk_54 5 (dk_at dksX2_orderFor_1 20 rfl rfl)
theorem dX2_orderFor_46 : decode cX2_orderFor 46 = .ok (.iload 5, 2) := dk_21 5 (dk_at dksX2_orderFor_1 22 rfl rfl)
theorem dX2_orderFor_48 : decode cX2_orderFor 48 = .ok (.iconst 4, 1) := dk_7 (dk_at dksX2_orderFor_2 0 rfl rfl)
theorem dX2_orderFor_49 : decode cX2_orderFor 49 = .ok (.if_icmp .gt 24, 3) := dk_163 0 24 (dk_at dksX2_orderFor_2 1 rfl rfl)
theorem dX2_orderFor_52 : decode cX2_orderFor 52 = .ok (.aload_n 0, 1) := dk_42 (dk_at dksX2_orderFor_2 4 rfl rfl)
theorem dX2_orderFor_53 : decode cX2_orderFor 53 = .ok (.iload_n 1, 1) := dk_27 (dk_at dksX2_orderFor_2 5 rfl rfl)
theorem dX2_orderFor_54 : decode cX2_orderFor 54 = .ok (.iload 5, 2) := dk_21 5 (dk_at dksX2_orderFor_2 6 rfl rfl)
theorem dX2_orderFor_56 : decode cX2_orderFor 56 = .ok (.invokevirtual 303, 3) := dk_182 1 47 (dk_at dksX2_orderFor_2 8 rfl rfl)
theorem dX2_orderFor_59 : decode cX2_orderFor 59 = .ok (.dload_n 3, 1) := dk_41 (dk_at dksX2_orderFor_2 11 rfl rfl)
theorem dX2_orderFor_60 : decode cX2_orderFor 60 = .ok (.dcmp .g, 1) := dk_152 (dk_at dksX2_orderFor_2 12 rfl rfl)
theorem dX2_orderFor_61 : decode cX2_orderFor 61 = .ok (.ifCond .gt 6, 3) := dk_157 0 6 (dk_at dksX2_orderFor_2 13 rfl rfl)
theorem dX2_orderFor_64 : decode cX2_orderFor 64 = .ok (.iload 5, 2) := dk_21 5 (dk_at dksX2_orderFor_2 16 rfl rfl)
theorem dX2_orderFor_66 : decode cX2_orderFor 66 = .ok (.ireturn, 1) := dk_172 (dk_at dksX2_orderFor_2 18 rfl rfl)
theorem dX2_orderFor_67 : decode cX2_orderFor 67 = .ok (.iinc 5 1, 3) := dk_132 5 1 (dk_at dksX2_orderFor_2 19 rfl rfl)
theorem dX2_orderFor_70 : decode cX2_orderFor 70 = .ok (.goto (-24), 3) := dk_167 255 232 (dk_at dksX2_orderFor_3 0 rfl rfl)
theorem dX2_orderFor_73 : decode cX2_orderFor 73 = .ok (.iconst (-1), 1) := dk_2 (dk_at dksX2_orderFor_3 3 rfl rfl)
theorem dX2_orderFor_74 : decode cX2_orderFor 74 = .ok (.ireturn, 1) := dk_172 (dk_at dksX2_orderFor_3 4 rfl rfl)
abbrev cX2_costAll : ByteArray := prog_10_method_119_code
def yX2_costAll : MethodName := ⟨RX2, "costAll", "()I"⟩
def dkwX2_costAll_1 : List UInt8 := [182, 1, 25, 96, 60, 132, 2, 1, 167, 255, 229, 27, 172]
abbrev dktX2_costAll_1 : List UInt8 := dkwX2_costAll_1 ++ []
def dkwX2_costAll_0 : List UInt8 := [3, 60, 3, 61, 28, 42, 180, 0, 9, 3, 46, 162, 0, 23, 27, 42, 42, 28, 3, 182, 0, 163, 3]
abbrev dktX2_costAll_0 : List UInt8 := dkwX2_costAll_0 ++ dktX2_costAll_1
theorem dksX2_costAll_0 : cX2_costAll.data.toList.drop 0 = dktX2_costAll_0 := by decide +kernel
theorem dksX2_costAll_1 : cX2_costAll.data.toList.drop 23 = dktX2_costAll_1 := dk_seg dksX2_costAll_0 23 rfl rfl
theorem dX2_costAll_0 : decode cX2_costAll 0 = .ok (.iconst 0, 1) := dk_3 (dk_at dksX2_costAll_0 0 rfl rfl)
theorem dX2_costAll_1 : decode cX2_costAll 1 = .ok (.istore_n 1, 1) := dk_60 (dk_at dksX2_costAll_0 1 rfl rfl)
theorem dX2_costAll_2 : decode cX2_costAll 2 = .ok (.iconst 0, 1) := dk_3 (dk_at dksX2_costAll_0 2 rfl rfl)
theorem dX2_costAll_3 : decode cX2_costAll 3 = .ok (.istore_n 2, 1) := dk_61 (dk_at dksX2_costAll_0 3 rfl rfl)
theorem dX2_costAll_4 : decode cX2_costAll 4 = .ok (.iload_n 2, 1) := dk_28 (dk_at dksX2_costAll_0 4 rfl rfl)
theorem dX2_costAll_5 : decode cX2_costAll 5 = .ok (.aload_n 0, 1) := dk_42 (dk_at dksX2_costAll_0 5 rfl rfl)
theorem dX2_costAll_6 : decode cX2_costAll 6 = .ok (.getfield 9, 3) := dk_180 0 9 (dk_at dksX2_costAll_0 6 rfl rfl)
theorem dX2_costAll_9 : decode cX2_costAll 9 = .ok (.iconst 0, 1) := dk_3 (dk_at dksX2_costAll_0 9 rfl rfl)
theorem dX2_costAll_10 : decode cX2_costAll 10 = .ok (.iaload, 1) := dk_46 (dk_at dksX2_costAll_0 10 rfl rfl)
theorem dX2_costAll_11 : decode cX2_costAll 11 = .ok (.if_icmp .ge 23, 3) := dk_162 0 23 (dk_at dksX2_costAll_0 11 rfl rfl)
theorem dX2_costAll_14 : decode cX2_costAll 14 = .ok (.iload_n 1, 1) := dk_27 (dk_at dksX2_costAll_0 14 rfl rfl)
theorem dX2_costAll_15 : decode cX2_costAll 15 = .ok (.aload_n 0, 1) := dk_42 (dk_at dksX2_costAll_0 15 rfl rfl)
theorem dX2_costAll_16 : decode cX2_costAll 16 = .ok (.aload_n 0, 1) := dk_42 (dk_at dksX2_costAll_0 16 rfl rfl)
theorem dX2_costAll_17 : decode cX2_costAll 17 = .ok (.iload_n 2, 1) := dk_28 (dk_at dksX2_costAll_0 17 rfl rfl)
theorem dX2_costAll_18 : decode cX2_costAll 18 = .ok (.iconst 0, 1) := dk_3 (dk_at dksX2_costAll_0 18 rfl rfl)
theorem dX2_costAll_19 : decode cX2_costAll 19 = .ok (.invokevirtual 163, 3) := dk_182 0 163 (dk_at dksX2_costAll_0 19 rfl rfl)
theorem dX2_costAll_22 : decode cX2_costAll 22 = .ok (.iconst 0, 1) := dk_3 (dk_at dksX2_costAll_0 22 rfl rfl)
theorem dX2_costAll_23 : decode cX2_costAll 23 = .ok (.invokevirtual 281, 3) := dk_182 1 25 (dk_at dksX2_costAll_1 0 rfl rfl)
theorem dX2_costAll_26 : decode cX2_costAll 26 = .ok (.iadd, 1) := dk_96 (dk_at dksX2_costAll_1 3 rfl rfl)
theorem dX2_costAll_27 : decode cX2_costAll 27 = .ok (.istore_n 1, 1) := dk_60 (dk_at dksX2_costAll_1 4 rfl rfl)
theorem dX2_costAll_28 : decode cX2_costAll 28 = .ok (.iinc 2 1, 3) := dk_132 2 1 (dk_at dksX2_costAll_1 5 rfl rfl)
theorem dX2_costAll_31 : decode cX2_costAll 31 = .ok (.goto (-27), 3) := dk_167 255 229 (dk_at dksX2_costAll_1 8 rfl rfl)
theorem dX2_costAll_34 : decode cX2_costAll 34 = .ok (.iload_n 1, 1) := dk_27 (dk_at dksX2_costAll_1 11 rfl rfl)
theorem dX2_costAll_35 : decode cX2_costAll 35 = .ok (.ireturn, 1) := dk_172 (dk_at dksX2_costAll_1 12 rfl rfl)
abbrev cX2_bestLevels : ByteArray := prog_10_method_120_code
def yX2_bestLevels : MethodName := ⟨RX2, "bestLevels", "()I"⟩
def dkwX2_bestLevels_2 : List UInt8 := [167, 0, 8, 29, 60, 21, 4, 61, 132, 3, 1, 167, 255, 216, 42, 27, 182, 1, 106, 172]
abbrev dktX2_bestLevels_2 : List UInt8 := dkwX2_bestLevels_2 ++ []
def dkwX2_bestLevels_1 : List UInt8 := [42, 180, 0, 9, 6, 29, 79, 42, 182, 1, 113, 54, 4, 27, 2, 159, 0, 12, 21, 4, 28, 161, 0, 6]
abbrev dktX2_bestLevels_1 : List UInt8 := dkwX2_bestLevels_1 ++ dktX2_bestLevels_2
def dkwX2_bestLevels_0 : List UInt8 := [42, 182, 0, 229, 154, 0, 5, 3, 172, 42, 182, 1, 100, 2, 60, 3, 61, 5, 62, 29, 8, 163, 0, 41]
abbrev dktX2_bestLevels_0 : List UInt8 := dkwX2_bestLevels_0 ++ dktX2_bestLevels_1
theorem dksX2_bestLevels_0 : cX2_bestLevels.data.toList.drop 0 = dktX2_bestLevels_0 := by decide +kernel
theorem dksX2_bestLevels_1 : cX2_bestLevels.data.toList.drop 24 = dktX2_bestLevels_1 := dk_seg dksX2_bestLevels_0 24 rfl rfl
theorem dksX2_bestLevels_2 : cX2_bestLevels.data.toList.drop 48 = dktX2_bestLevels_2 := dk_seg dksX2_bestLevels_1 24 rfl rfl
theorem dX2_bestLevels_0 : decode cX2_bestLevels 0 = .ok (.aload_n 0, 1) := dk_42 (dk_at dksX2_bestLevels_0 0 rfl rfl)
theorem dX2_bestLevels_1 : decode cX2_bestLevels 1 = .ok (.invokevirtual 229, 3) := dk_182 0 229 (dk_at dksX2_bestLevels_0 1 rfl rfl)
theorem dX2_bestLevels_4 : decode cX2_bestLevels 4 = .ok (.ifCond .ne 5, 3) := dk_154 0 5 (dk_at dksX2_bestLevels_0 4 rfl rfl)
theorem dX2_bestLevels_7 : decode cX2_bestLevels 7 = .ok (.iconst 0, 1) := dk_3 (dk_at dksX2_bestLevels_0 7 rfl rfl)
theorem dX2_bestLevels_8 : decode cX2_bestLevels 8 = .ok (.ireturn, 1) := dk_172 (dk_at dksX2_bestLevels_0 8 rfl rfl)
theorem dX2_bestLevels_9 : decode cX2_bestLevels 9 = .ok (.aload_n 0, 1) := dk_42 (dk_at dksX2_bestLevels_0 9 rfl rfl)
theorem dX2_bestLevels_10 : decode cX2_bestLevels 10 = .ok (.invokevirtual 356, 3) := dk_182 1 100 (dk_at dksX2_bestLevels_0 10 rfl rfl)
theorem dX2_bestLevels_13 : decode cX2_bestLevels 13 = .ok (.iconst (-1), 1) := dk_2 (dk_at dksX2_bestLevels_0 13 rfl rfl)
theorem dX2_bestLevels_14 : decode cX2_bestLevels 14 = .ok (.istore_n 1, 1) := dk_60 (dk_at dksX2_bestLevels_0 14 rfl rfl)
theorem dX2_bestLevels_15 : decode cX2_bestLevels 15 = .ok (.iconst 0, 1) := dk_3 (dk_at dksX2_bestLevels_0 15 rfl rfl)
theorem dX2_bestLevels_16 : decode cX2_bestLevels 16 = .ok (.istore_n 2, 1) := dk_61 (dk_at dksX2_bestLevels_0 16 rfl rfl)
theorem dX2_bestLevels_17 : decode cX2_bestLevels 17 = .ok (.iconst 2, 1) := dk_5 (dk_at dksX2_bestLevels_0 17 rfl rfl)
theorem dX2_bestLevels_18 : decode cX2_bestLevels 18 = .ok (.istore_n 3, 1) := dk_62 (dk_at dksX2_bestLevels_0 18 rfl rfl)
theorem dX2_bestLevels_19 : decode cX2_bestLevels 19 = .ok (.iload_n 3, 1) := dk_29 (dk_at dksX2_bestLevels_0 19 rfl rfl)
theorem dX2_bestLevels_20 : decode cX2_bestLevels 20 = .ok (.iconst 5, 1) := dk_8 (dk_at dksX2_bestLevels_0 20 rfl rfl)
theorem dX2_bestLevels_21 : decode cX2_bestLevels 21 = .ok (.if_icmp .gt 41, 3) := dk_163 0 41 (dk_at dksX2_bestLevels_0 21 rfl rfl)
theorem dX2_bestLevels_24 : decode cX2_bestLevels 24 = .ok (.aload_n 0, 1) := dk_42 (dk_at dksX2_bestLevels_1 0 rfl rfl)
theorem dX2_bestLevels_25 : decode cX2_bestLevels 25 = .ok (.getfield 9, 3) := dk_180 0 9 (dk_at dksX2_bestLevels_1 1 rfl rfl)
theorem dX2_bestLevels_28 : decode cX2_bestLevels 28 = .ok (.iconst 3, 1) := dk_6 (dk_at dksX2_bestLevels_1 4 rfl rfl)
theorem dX2_bestLevels_29 : decode cX2_bestLevels 29 = .ok (.iload_n 3, 1) := dk_29 (dk_at dksX2_bestLevels_1 5 rfl rfl)
theorem dX2_bestLevels_30 : decode cX2_bestLevels 30 = .ok (.iastore, 1) := dk_79 (dk_at dksX2_bestLevels_1 6 rfl rfl)
theorem dX2_bestLevels_31 : decode cX2_bestLevels 31 = .ok (.aload_n 0, 1) := dk_42 (dk_at dksX2_bestLevels_1 7 rfl rfl)
theorem dX2_bestLevels_32 : decode cX2_bestLevels 32 = .ok (.invokevirtual 369, 3) := dk_182 1 113 (dk_at dksX2_bestLevels_1 8 rfl rfl)
theorem dX2_bestLevels_35 : decode cX2_bestLevels 35 = .ok (.istore 4, 2) := dk_54 4 (dk_at dksX2_bestLevels_1 11 rfl rfl)
theorem dX2_bestLevels_37 : decode cX2_bestLevels 37 = .ok (.iload_n 1, 1) := dk_27 (dk_at dksX2_bestLevels_1 13 rfl rfl)
theorem dX2_bestLevels_38 : decode cX2_bestLevels 38 = .ok (.iconst (-1), 1) := dk_2 (dk_at dksX2_bestLevels_1 14 rfl rfl)
theorem dX2_bestLevels_39 : decode cX2_bestLevels 39 = .ok (.if_icmp .eq 12, 3) := dk_159 0 12 (dk_at dksX2_bestLevels_1 15 rfl rfl)
theorem dX2_bestLevels_42 : decode cX2_bestLevels 42 = .ok (.iload 4, 2) := dk_21 4 (dk_at dksX2_bestLevels_1 18 rfl rfl)
theorem dX2_bestLevels_44 : decode cX2_bestLevels 44 = .ok (.iload_n 2, 1) := dk_28 (dk_at dksX2_bestLevels_1 20 rfl rfl)
theorem dX2_bestLevels_45 : decode cX2_bestLevels 45 = .ok (.if_icmp .lt 6, 3) := dk_161 0 6 (dk_at dksX2_bestLevels_1 21 rfl rfl)
theorem dX2_bestLevels_48 : decode cX2_bestLevels 48 = .ok (.goto 8, 3) := dk_167 0 8 (dk_at dksX2_bestLevels_2 0 rfl rfl)
theorem dX2_bestLevels_51 : decode cX2_bestLevels 51 = .ok (.iload_n 3, 1) := dk_29 (dk_at dksX2_bestLevels_2 3 rfl rfl)
theorem dX2_bestLevels_52 : decode cX2_bestLevels 52 = .ok (.istore_n 1, 1) := dk_60 (dk_at dksX2_bestLevels_2 4 rfl rfl)
theorem dX2_bestLevels_53 : decode cX2_bestLevels 53 = .ok (.iload 4, 2) := dk_21 4 (dk_at dksX2_bestLevels_2 5 rfl rfl)
theorem dX2_bestLevels_55 : decode cX2_bestLevels 55 = .ok (.istore_n 2, 1) := dk_61 (dk_at dksX2_bestLevels_2 7 rfl rfl)
theorem dX2_bestLevels_56 : decode cX2_bestLevels 56 = .ok (.iinc 3 1, 3) := dk_132 3 1 (dk_at dksX2_bestLevels_2 8 rfl rfl)
theorem dX2_bestLevels_59 : decode cX2_bestLevels 59 = .ok (.goto (-40), 3) := dk_167 255 216 (dk_at dksX2_bestLevels_2 11 rfl rfl)
theorem dX2_bestLevels_62 : decode cX2_bestLevels 62 = .ok (.aload_n 0, 1) := dk_42 (dk_at dksX2_bestLevels_2 14 rfl rfl)
theorem dX2_bestLevels_63 : decode cX2_bestLevels 63 = .ok (.iload_n 1, 1) := dk_27 (dk_at dksX2_bestLevels_2 15 rfl rfl)
theorem dX2_bestLevels_64 : decode cX2_bestLevels 64 = .ok (.invokevirtual 362, 3) := dk_182 1 106 (dk_at dksX2_bestLevels_2 16 rfl rfl)
theorem dX2_bestLevels_67 : decode cX2_bestLevels 67 = .ok (.ireturn, 1) := dk_172 (dk_at dksX2_bestLevels_2 19 rfl rfl)
abbrev cX2_without : ByteArray := prog_10_method_121_code
def yX2_without : MethodName := ⟨RX2, "without", "(II)D"⟩
def dkwX2_without_1 : List UInt8 := [182, 1, 29, 167, 0, 4, 14, 175]
abbrev dktX2_without_1 : List UInt8 := dkwX2_without_1 ++ []
def dkwX2_without_0 : List UInt8 := [42, 42, 180, 0, 156, 42, 27, 182, 0, 210, 28, 184, 0, 213, 182, 0, 60, 153, 0, 13, 42, 28, 4, 27]
abbrev dktX2_without_0 : List UInt8 := dkwX2_without_0 ++ dktX2_without_1
theorem dksX2_without_0 : cX2_without.data.toList.drop 0 = dktX2_without_0 := by decide +kernel
theorem dksX2_without_1 : cX2_without.data.toList.drop 24 = dktX2_without_1 := dk_seg dksX2_without_0 24 rfl rfl
theorem dX2_without_0 : decode cX2_without 0 = .ok (.aload_n 0, 1) := dk_42 (dk_at dksX2_without_0 0 rfl rfl)
theorem dX2_without_1 : decode cX2_without 1 = .ok (.aload_n 0, 1) := dk_42 (dk_at dksX2_without_0 1 rfl rfl)
theorem dX2_without_2 : decode cX2_without 2 = .ok (.getfield 156, 3) := dk_180 0 156 (dk_at dksX2_without_0 2 rfl rfl)
theorem dX2_without_5 : decode cX2_without 5 = .ok (.aload_n 0, 1) := dk_42 (dk_at dksX2_without_0 5 rfl rfl)
theorem dX2_without_6 : decode cX2_without 6 = .ok (.iload_n 1, 1) := dk_27 (dk_at dksX2_without_0 6 rfl rfl)
theorem dX2_without_7 : decode cX2_without 7 = .ok (.invokevirtual 210, 3) := dk_182 0 210 (dk_at dksX2_without_0 7 rfl rfl)
theorem dX2_without_10 : decode cX2_without 10 = .ok (.iload_n 2, 1) := dk_28 (dk_at dksX2_without_0 10 rfl rfl)
theorem dX2_without_11 : decode cX2_without 11 = .ok (.invokestatic 213, 3) := dk_184 0 213 (dk_at dksX2_without_0 11 rfl rfl)
theorem dX2_without_14 : decode cX2_without 14 = .ok (.invokevirtual 60, 3) := dk_182 0 60 (dk_at dksX2_without_0 14 rfl rfl)
theorem dX2_without_17 : decode cX2_without 17 = .ok (.ifCond .eq 13, 3) := dk_153 0 13 (dk_at dksX2_without_0 17 rfl rfl)
theorem dX2_without_20 : decode cX2_without 20 = .ok (.aload_n 0, 1) := dk_42 (dk_at dksX2_without_0 20 rfl rfl)
theorem dX2_without_21 : decode cX2_without 21 = .ok (.iload_n 2, 1) := dk_28 (dk_at dksX2_without_0 21 rfl rfl)
theorem dX2_without_22 : decode cX2_without 22 = .ok (.iconst 1, 1) := dk_4 (dk_at dksX2_without_0 22 rfl rfl)
theorem dX2_without_23 : decode cX2_without 23 = .ok (.iload_n 1, 1) := dk_27 (dk_at dksX2_without_0 23 rfl rfl)
theorem dX2_without_24 : decode cX2_without 24 = .ok (.invokevirtual 285, 3) := dk_182 1 29 (dk_at dksX2_without_1 0 rfl rfl)
theorem dX2_without_27 : decode cX2_without 27 = .ok (.goto 4, 3) := dk_167 0 4 (dk_at dksX2_without_1 3 rfl rfl)
theorem dX2_without_30 : decode cX2_without 30 = .ok (.dconst 0, 1) := dk_14 (dk_at dksX2_without_1 6 rfl rfl)
theorem dX2_without_31 : decode cX2_without 31 = .ok (.dreturn, 1) := dk_175 (dk_at dksX2_without_1 7 rfl rfl)
abbrev cX2_quietest : ByteArray := prog_10_method_122_code
def yX2_quietest : MethodName := ⟨RX2, "quietest", "()I"⟩
def dkwX2_quietest_3 : List UInt8 := [132, 4, 1, 167, 255, 198, 27, 172]
abbrev dktX2_quietest_3 : List UInt8 := dkwX2_quietest_3 ++ []
def dkwX2_quietest_2 : List UInt8 := [57, 5, 27, 2, 159, 0, 13, 24, 5, 40, 151, 155, 0, 6, 167, 0, 9, 21, 4, 60, 24, 5, 73]
abbrev dktX2_quietest_2 : List UInt8 := dkwX2_quietest_2 ++ dktX2_quietest_3
def dkwX2_quietest_1 : List UInt8 := [42, 21, 4, 182, 0, 219, 2, 159, 0, 6, 167, 0, 37, 42, 21, 4, 4, 2, 182, 1, 29, 184, 1, 51]
abbrev dktX2_quietest_1 : List UInt8 := dkwX2_quietest_1 ++ dktX2_quietest_2
def dkwX2_quietest_0 : List UInt8 := [42, 182, 0, 229, 154, 0, 5, 3, 172, 2, 60, 14, 73, 3, 54, 4, 21, 4, 17, 1, 0, 162, 0, 56]
abbrev dktX2_quietest_0 : List UInt8 := dkwX2_quietest_0 ++ dktX2_quietest_1
theorem dksX2_quietest_0 : cX2_quietest.data.toList.drop 0 = dktX2_quietest_0 := by decide +kernel
theorem dksX2_quietest_1 : cX2_quietest.data.toList.drop 24 = dktX2_quietest_1 := dk_seg dksX2_quietest_0 24 rfl rfl
theorem dksX2_quietest_2 : cX2_quietest.data.toList.drop 48 = dktX2_quietest_2 := dk_seg dksX2_quietest_1 24 rfl rfl
theorem dksX2_quietest_3 : cX2_quietest.data.toList.drop 71 = dktX2_quietest_3 := dk_seg dksX2_quietest_2 23 rfl rfl
theorem dX2_quietest_0 : decode cX2_quietest 0 = .ok (.aload_n 0, 1) := dk_42 (dk_at dksX2_quietest_0 0 rfl rfl)
theorem dX2_quietest_1 : decode cX2_quietest 1 = .ok (.invokevirtual 229, 3) := dk_182 0 229 (dk_at dksX2_quietest_0 1 rfl rfl)
theorem dX2_quietest_4 : decode cX2_quietest 4 = .ok (.ifCond .ne 5, 3) := dk_154 0 5 (dk_at dksX2_quietest_0 4 rfl rfl)
theorem dX2_quietest_7 : decode cX2_quietest 7 = .ok (.iconst 0, 1) := dk_3 (dk_at dksX2_quietest_0 7 rfl rfl)
theorem dX2_quietest_8 : decode cX2_quietest 8 = .ok (.ireturn, 1) := dk_172 (dk_at dksX2_quietest_0 8 rfl rfl)
theorem dX2_quietest_9 : decode cX2_quietest 9 = .ok (.iconst (-1), 1) := dk_2 (dk_at dksX2_quietest_0 9 rfl rfl)
theorem dX2_quietest_10 : decode cX2_quietest 10 = .ok (.istore_n 1, 1) := dk_60 (dk_at dksX2_quietest_0 10 rfl rfl)
theorem dX2_quietest_11 : decode cX2_quietest 11 = .ok (.dconst 0, 1) := dk_14 (dk_at dksX2_quietest_0 11 rfl rfl)
theorem dX2_quietest_12 : decode cX2_quietest 12 = .ok (.dstore_n 2, 1) := dk_73 (dk_at dksX2_quietest_0 12 rfl rfl)
theorem dX2_quietest_13 : decode cX2_quietest 13 = .ok (.iconst 0, 1) := dk_3 (dk_at dksX2_quietest_0 13 rfl rfl)
theorem dX2_quietest_14 : decode cX2_quietest 14 = .ok (.istore 4, 2) := dk_54 4 (dk_at dksX2_quietest_0 14 rfl rfl)
theorem dX2_quietest_16 : decode cX2_quietest 16 = .ok (.iload 4, 2) := dk_21 4 (dk_at dksX2_quietest_0 16 rfl rfl)
theorem dX2_quietest_18 : decode cX2_quietest 18 = .ok (.sipush 256, 3) := dk_17 1 0 (dk_at dksX2_quietest_0 18 rfl rfl)
theorem dX2_quietest_21 : decode cX2_quietest 21 = .ok (.if_icmp .ge 56, 3) := dk_162 0 56 (dk_at dksX2_quietest_0 21 rfl rfl)
theorem dX2_quietest_24 : decode cX2_quietest 24 = .ok (.aload_n 0, 1) := dk_42 (dk_at dksX2_quietest_1 0 rfl rfl)
theorem dX2_quietest_25 : decode cX2_quietest 25 = .ok (.iload 4, 2) := dk_21 4 (dk_at dksX2_quietest_1 1 rfl rfl)
theorem dX2_quietest_27 : decode cX2_quietest 27 = .ok (.invokevirtual 219, 3) := dk_182 0 219 (dk_at dksX2_quietest_1 3 rfl rfl)
theorem dX2_quietest_30 : decode cX2_quietest 30 = .ok (.iconst (-1), 1) := dk_2 (dk_at dksX2_quietest_1 6 rfl rfl)
theorem dX2_quietest_31 : decode cX2_quietest 31 = .ok (.if_icmp .eq 6, 3) := dk_159 0 6 (dk_at dksX2_quietest_1 7 rfl rfl)
theorem dX2_quietest_34 : decode cX2_quietest 34 = .ok (.goto 37, 3) := dk_167 0 37 (dk_at dksX2_quietest_1 10 rfl rfl)
theorem dX2_quietest_37 : decode cX2_quietest 37 = .ok (.aload_n 0, 1) := dk_42 (dk_at dksX2_quietest_1 13 rfl rfl)
theorem dX2_quietest_38 : decode cX2_quietest 38 = .ok (.iload 4, 2) := dk_21 4 (dk_at dksX2_quietest_1 14 rfl rfl)
theorem dX2_quietest_40 : decode cX2_quietest 40 = .ok (.iconst 1, 1) := dk_4 (dk_at dksX2_quietest_1 16 rfl rfl)
theorem dX2_quietest_41 : decode cX2_quietest 41 = .ok (.iconst (-1), 1) := dk_2 (dk_at dksX2_quietest_1 17 rfl rfl)
theorem dX2_quietest_42 : decode cX2_quietest 42 = .ok (.invokevirtual 285, 3) := dk_182 1 29 (dk_at dksX2_quietest_1 18 rfl rfl)
theorem dX2_quietest_45 : decode cX2_quietest 45 = .ok (.invokestatic 307, 3) := dk_184 1 51 (dk_at dksX2_quietest_1 21 rfl rfl)
theorem dX2_quietest_48 : decode cX2_quietest 48 = .ok (.dstore 5, 2) := dk_57 5 (dk_at dksX2_quietest_2 0 rfl rfl)
theorem dX2_quietest_50 : decode cX2_quietest 50 = .ok (.iload_n 1, 1) := dk_27 (dk_at dksX2_quietest_2 2 rfl rfl)
theorem dX2_quietest_51 : decode cX2_quietest 51 = .ok (.iconst (-1), 1) := dk_2 (dk_at dksX2_quietest_2 3 rfl rfl)
theorem dX2_quietest_52 : decode cX2_quietest 52 = .ok (.if_icmp .eq 13, 3) := dk_159 0 13 (dk_at dksX2_quietest_2 4 rfl rfl)
theorem dX2_quietest_55 : decode cX2_quietest 55 = .ok (.dload 5, 2) := dk_24 5 (dk_at dksX2_quietest_2 7 rfl rfl)
theorem dX2_quietest_57 : decode cX2_quietest 57 = .ok (.dload_n 2, 1) := dk_40 (dk_at dksX2_quietest_2 9 rfl rfl)
theorem dX2_quietest_58 : decode cX2_quietest 58 = .ok (.dcmp .l, 1) := dk_151 (dk_at dksX2_quietest_2 10 rfl rfl)
theorem dX2_quietest_59 : decode cX2_quietest 59 = .ok (.ifCond .lt 6, 3) := dk_155 0 6 (dk_at dksX2_quietest_2 11 rfl rfl)
theorem dX2_quietest_62 : decode cX2_quietest 62 = .ok (.goto 9, 3) := dk_167 0 9 (dk_at dksX2_quietest_2 14 rfl rfl)
theorem dX2_quietest_65 : decode cX2_quietest 65 = .ok (.iload 4, 2) := dk_21 4 (dk_at dksX2_quietest_2 17 rfl rfl)
theorem dX2_quietest_67 : decode cX2_quietest 67 = .ok (.istore_n 1, 1) := dk_60 (dk_at dksX2_quietest_2 19 rfl rfl)
theorem dX2_quietest_68 : decode cX2_quietest 68 = .ok (.dload 5, 2) := dk_24 5 (dk_at dksX2_quietest_2 20 rfl rfl)
theorem dX2_quietest_70 : decode cX2_quietest 70 = .ok (.dstore_n 2, 1) := dk_73 (dk_at dksX2_quietest_2 22 rfl rfl)
theorem dX2_quietest_71 : decode cX2_quietest 71 = .ok (.iinc 4 1, 3) := dk_132 4 1 (dk_at dksX2_quietest_3 0 rfl rfl)
theorem dX2_quietest_74 : decode cX2_quietest 74 = .ok (.goto (-58), 3) := dk_167 255 198 (dk_at dksX2_quietest_3 3 rfl rfl)
theorem dX2_quietest_77 : decode cX2_quietest 77 = .ok (.iload_n 1, 1) := dk_27 (dk_at dksX2_quietest_3 6 rfl rfl)
theorem dX2_quietest_78 : decode cX2_quietest 78 = .ok (.ireturn, 1) := dk_172 (dk_at dksX2_quietest_3 7 rfl rfl)
abbrev cX2_balanced : ByteArray := prog_10_method_123_code
def yX2_balanced : MethodName := ⟨RX2, "balanced", "()F"⟩
def dkwX2_balanced_1 : List UInt8 := [4, 182, 0, 200, 134, 110, 174]
abbrev dktX2_balanced_1 : List UInt8 := dkwX2_balanced_1 ++ []
def dkwX2_balanced_0 : List UInt8 := [42, 180, 0, 9, 3, 46, 154, 0, 7, 11, 167, 0, 20, 42, 3, 3, 3, 182, 0, 200, 134, 42, 3, 3]
abbrev dktX2_balanced_0 : List UInt8 := dkwX2_balanced_0 ++ dktX2_balanced_1
theorem dksX2_balanced_0 : cX2_balanced.data.toList.drop 0 = dktX2_balanced_0 := by decide +kernel
theorem dksX2_balanced_1 : cX2_balanced.data.toList.drop 24 = dktX2_balanced_1 := dk_seg dksX2_balanced_0 24 rfl rfl
theorem dX2_balanced_0 : decode cX2_balanced 0 = .ok (.aload_n 0, 1) := dk_42 (dk_at dksX2_balanced_0 0 rfl rfl)
theorem dX2_balanced_1 : decode cX2_balanced 1 = .ok (.getfield 9, 3) := dk_180 0 9 (dk_at dksX2_balanced_0 1 rfl rfl)
theorem dX2_balanced_4 : decode cX2_balanced 4 = .ok (.iconst 0, 1) := dk_3 (dk_at dksX2_balanced_0 4 rfl rfl)
theorem dX2_balanced_5 : decode cX2_balanced 5 = .ok (.iaload, 1) := dk_46 (dk_at dksX2_balanced_0 5 rfl rfl)
theorem dX2_balanced_6 : decode cX2_balanced 6 = .ok (.ifCond .ne 7, 3) := dk_154 0 7 (dk_at dksX2_balanced_0 6 rfl rfl)
theorem dX2_balanced_9 : decode cX2_balanced 9 = .ok (.fconst 0, 1) := dk_11 (dk_at dksX2_balanced_0 9 rfl rfl)
theorem dX2_balanced_10 : decode cX2_balanced 10 = .ok (.goto 20, 3) := dk_167 0 20 (dk_at dksX2_balanced_0 10 rfl rfl)
theorem dX2_balanced_13 : decode cX2_balanced 13 = .ok (.aload_n 0, 1) := dk_42 (dk_at dksX2_balanced_0 13 rfl rfl)
theorem dX2_balanced_14 : decode cX2_balanced 14 = .ok (.iconst 0, 1) := dk_3 (dk_at dksX2_balanced_0 14 rfl rfl)
theorem dX2_balanced_15 : decode cX2_balanced 15 = .ok (.iconst 0, 1) := dk_3 (dk_at dksX2_balanced_0 15 rfl rfl)
theorem dX2_balanced_16 : decode cX2_balanced 16 = .ok (.iconst 0, 1) := dk_3 (dk_at dksX2_balanced_0 16 rfl rfl)
theorem dX2_balanced_17 : decode cX2_balanced 17 = .ok (.invokevirtual 200, 3) := dk_182 0 200 (dk_at dksX2_balanced_0 17 rfl rfl)
theorem dX2_balanced_20 : decode cX2_balanced 20 = .ok (.i2f, 1) := dk_134 (dk_at dksX2_balanced_0 20 rfl rfl)
theorem dX2_balanced_21 : decode cX2_balanced 21 = .ok (.aload_n 0, 1) := dk_42 (dk_at dksX2_balanced_0 21 rfl rfl)
theorem dX2_balanced_22 : decode cX2_balanced 22 = .ok (.iconst 0, 1) := dk_3 (dk_at dksX2_balanced_0 22 rfl rfl)
theorem dX2_balanced_23 : decode cX2_balanced 23 = .ok (.iconst 0, 1) := dk_3 (dk_at dksX2_balanced_0 23 rfl rfl)
theorem dX2_balanced_24 : decode cX2_balanced 24 = .ok (.iconst 1, 1) := dk_4 (dk_at dksX2_balanced_1 0 rfl rfl)
theorem dX2_balanced_25 : decode cX2_balanced 25 = .ok (.invokevirtual 200, 3) := dk_182 0 200 (dk_at dksX2_balanced_1 1 rfl rfl)
theorem dX2_balanced_28 : decode cX2_balanced 28 = .ok (.i2f, 1) := dk_134 (dk_at dksX2_balanced_1 4 rfl rfl)
theorem dX2_balanced_29 : decode cX2_balanced 29 = .ok (.fdiv, 1) := dk_110 (dk_at dksX2_balanced_1 5 rfl rfl)
theorem dX2_balanced_30 : decode cX2_balanced 30 = .ok (.freturn, 1) := dk_174 (dk_at dksX2_balanced_1 6 rfl rfl)
abbrev cX2_balance : ByteArray := prog_10_method_124_code
def yX2_balance : MethodName := ⟨RX2, "balance", "()F"⟩
def dkwX2_balance_0 : List UInt8 := [42, 182, 0, 229, 153, 0, 10, 42, 182, 1, 116, 167, 0, 4, 11, 174]
abbrev dktX2_balance_0 : List UInt8 := dkwX2_balance_0 ++ []
theorem dksX2_balance_0 : cX2_balance.data.toList.drop 0 = dktX2_balance_0 := by decide +kernel
theorem dX2_balance_0 : decode cX2_balance 0 = .ok (.aload_n 0, 1) := dk_42 (dk_at dksX2_balance_0 0 rfl rfl)
theorem dX2_balance_1 : decode cX2_balance 1 = .ok (.invokevirtual 229, 3) := dk_182 0 229 (dk_at dksX2_balance_0 1 rfl rfl)
theorem dX2_balance_4 : decode cX2_balance 4 = .ok (.ifCond .eq 10, 3) := dk_153 0 10 (dk_at dksX2_balance_0 4 rfl rfl)
theorem dX2_balance_7 : decode cX2_balance 7 = .ok (.aload_n 0, 1) := dk_42 (dk_at dksX2_balance_0 7 rfl rfl)
theorem dX2_balance_8 : decode cX2_balance 8 = .ok (.invokevirtual 372, 3) := dk_182 1 116 (dk_at dksX2_balance_0 8 rfl rfl)
theorem dX2_balance_11 : decode cX2_balance 11 = .ok (.goto 4, 3) := dk_167 0 4 (dk_at dksX2_balance_0 11 rfl rfl)
theorem dX2_balance_14 : decode cX2_balance 14 = .ok (.fconst 0, 1) := dk_11 (dk_at dksX2_balance_0 14 rfl rfl)
theorem dX2_balance_15 : decode cX2_balance 15 = .ok (.freturn, 1) := dk_174 (dk_at dksX2_balance_0 15 rfl rfl)
abbrev cJ35_isNaN : ByteArray := prog_21_method_6_code
def yJ35_isNaN : MethodName := ⟨RJ35, "isNaN", "(F)Z"⟩
def dkwJ35_isNaN_0 : List UInt8 := [34, 34, 149, 153, 0, 7, 4, 167, 0, 4, 3, 172]
abbrev dktJ35_isNaN_0 : List UInt8 := dkwJ35_isNaN_0 ++ []
theorem dksJ35_isNaN_0 : cJ35_isNaN.data.toList.drop 0 = dktJ35_isNaN_0 := by decide +kernel
theorem dJ35_isNaN_0 : decode cJ35_isNaN 0 = .ok (.fload_n 0, 1) := dk_34 (dk_at dksJ35_isNaN_0 0 rfl rfl)
theorem dJ35_isNaN_1 : decode cJ35_isNaN 1 = .ok (.fload_n 0, 1) := dk_34 (dk_at dksJ35_isNaN_0 1 rfl rfl)
theorem dJ35_isNaN_2 : decode cJ35_isNaN 2 = .ok (.fcmp .l, 1) := dk_149 (dk_at dksJ35_isNaN_0 2 rfl rfl)
theorem dJ35_isNaN_3 : decode cJ35_isNaN 3 = .ok (.ifCond .eq 7, 3) := dk_153 0 7 (dk_at dksJ35_isNaN_0 3 rfl rfl)
theorem dJ35_isNaN_6 : decode cJ35_isNaN 6 = .ok (.iconst 1, 1) := dk_4 (dk_at dksJ35_isNaN_0 6 rfl rfl)
theorem dJ35_isNaN_7 : decode cJ35_isNaN 7 = .ok (.goto 4, 3) := dk_167 0 4 (dk_at dksJ35_isNaN_0 7 rfl rfl)
theorem dJ35_isNaN_10 : decode cJ35_isNaN 10 = .ok (.iconst 0, 1) := dk_3 (dk_at dksJ35_isNaN_0 10 rfl rfl)
theorem dJ35_isNaN_11 : decode cJ35_isNaN 11 = .ok (.ireturn, 1) := dk_172 (dk_at dksJ35_isNaN_0 11 rfl rfl)
abbrev cJ35_floatToIntBits : ByteArray := prog_21_method_24_code
def yJ35_floatToIntBits : MethodName := ⟨RJ35, "floatToIntBits", "(F)I"⟩
def dkwJ35_floatToIntBits_0 : List UInt8 := [34, 184, 0, 59, 154, 0, 8, 34, 184, 0, 74, 172, 18, 77, 172]
abbrev dktJ35_floatToIntBits_0 : List UInt8 := dkwJ35_floatToIntBits_0 ++ []
theorem dksJ35_floatToIntBits_0 : cJ35_floatToIntBits.data.toList.drop 0 = dktJ35_floatToIntBits_0 := by decide +kernel
theorem dJ35_floatToIntBits_0 : decode cJ35_floatToIntBits 0 = .ok (.fload_n 0, 1) := dk_34 (dk_at dksJ35_floatToIntBits_0 0 rfl rfl)
theorem dJ35_floatToIntBits_1 : decode cJ35_floatToIntBits 1 = .ok (.invokestatic 59, 3) := dk_184 0 59 (dk_at dksJ35_floatToIntBits_0 1 rfl rfl)
theorem dJ35_floatToIntBits_4 : decode cJ35_floatToIntBits 4 = .ok (.ifCond .ne 8, 3) := dk_154 0 8 (dk_at dksJ35_floatToIntBits_0 4 rfl rfl)
theorem dJ35_floatToIntBits_7 : decode cJ35_floatToIntBits 7 = .ok (.fload_n 0, 1) := dk_34 (dk_at dksJ35_floatToIntBits_0 7 rfl rfl)
theorem dJ35_floatToIntBits_8 : decode cJ35_floatToIntBits 8 = .ok (.invokestatic 74, 3) := dk_184 0 74 (dk_at dksJ35_floatToIntBits_0 8 rfl rfl)
theorem dJ35_floatToIntBits_11 : decode cJ35_floatToIntBits 11 = .ok (.ireturn, 1) := dk_172 (dk_at dksJ35_floatToIntBits_0 11 rfl rfl)
theorem dJ35_floatToIntBits_12 : decode cJ35_floatToIntBits 12 = .ok (.ldc 77, 2) := dk_18 77 (dk_at dksJ35_floatToIntBits_0 12 rfl rfl)
theorem dJ35_floatToIntBits_14 : decode cJ35_floatToIntBits 14 = .ok (.ireturn, 1) := dk_172 (dk_at dksJ35_floatToIntBits_0 14 rfl rfl)
abbrev cX2_balanceBits : ByteArray := prog_10_method_125_code
def yX2_balanceBits : MethodName := ⟨RX2, "balanceBits", "()I"⟩
def dkwX2_balanceBits_0 : List UInt8 := [42, 182, 0, 229, 153, 0, 13, 42, 182, 1, 116, 184, 1, 120, 167, 0, 4, 3, 172]
abbrev dktX2_balanceBits_0 : List UInt8 := dkwX2_balanceBits_0 ++ []
theorem dksX2_balanceBits_0 : cX2_balanceBits.data.toList.drop 0 = dktX2_balanceBits_0 := by decide +kernel
theorem dX2_balanceBits_0 : decode cX2_balanceBits 0 = .ok (.aload_n 0, 1) := dk_42 (dk_at dksX2_balanceBits_0 0 rfl rfl)
theorem dX2_balanceBits_1 : decode cX2_balanceBits 1 = .ok (.invokevirtual 229, 3) := dk_182 0 229 (dk_at dksX2_balanceBits_0 1 rfl rfl)
theorem dX2_balanceBits_4 : decode cX2_balanceBits 4 = .ok (.ifCond .eq 13, 3) := dk_153 0 13 (dk_at dksX2_balanceBits_0 4 rfl rfl)
theorem dX2_balanceBits_7 : decode cX2_balanceBits 7 = .ok (.aload_n 0, 1) := dk_42 (dk_at dksX2_balanceBits_0 7 rfl rfl)
theorem dX2_balanceBits_8 : decode cX2_balanceBits 8 = .ok (.invokevirtual 372, 3) := dk_182 1 116 (dk_at dksX2_balanceBits_0 8 rfl rfl)
theorem dX2_balanceBits_11 : decode cX2_balanceBits 11 = .ok (.invokestatic 376, 3) := dk_184 1 120 (dk_at dksX2_balanceBits_0 11 rfl rfl)
theorem dX2_balanceBits_14 : decode cX2_balanceBits 14 = .ok (.goto 4, 3) := dk_167 0 4 (dk_at dksX2_balanceBits_0 14 rfl rfl)
theorem dX2_balanceBits_17 : decode cX2_balanceBits 17 = .ok (.iconst 0, 1) := dk_3 (dk_at dksX2_balanceBits_0 17 rfl rfl)
theorem dX2_balanceBits_18 : decode cX2_balanceBits 18 = .ok (.ireturn, 1) := dk_172 (dk_at dksX2_balanceBits_0 18 rfl rfl)
abbrev cX2_meanX : ByteArray := prog_10_method_126_code
def yX2_meanX : MethodName := ⟨RX2, "meanX", "()D"⟩
def dkwX2_meanX_2 : List UInt8 := [135, 42, 180, 0, 9, 3, 46, 135, 111, 175]
abbrev dktX2_meanX_2 : List UInt8 := dkwX2_meanX_2 ++ []
def dkwX2_meanX_1 : List UInt8 := [180, 0, 9, 3, 46, 162, 0, 18, 27, 42, 28, 3, 182, 0, 163, 96, 60, 132, 2, 1, 167, 255, 234, 27]
abbrev dktX2_meanX_1 : List UInt8 := dkwX2_meanX_1 ++ dktX2_meanX_2
def dkwX2_meanX_0 : List UInt8 := [42, 182, 0, 229, 153, 0, 12, 42, 180, 0, 9, 3, 46, 154, 0, 5, 14, 175, 3, 60, 3, 61, 28, 42]
abbrev dktX2_meanX_0 : List UInt8 := dkwX2_meanX_0 ++ dktX2_meanX_1
theorem dksX2_meanX_0 : cX2_meanX.data.toList.drop 0 = dktX2_meanX_0 := by decide +kernel
theorem dksX2_meanX_1 : cX2_meanX.data.toList.drop 24 = dktX2_meanX_1 := dk_seg dksX2_meanX_0 24 rfl rfl
theorem dksX2_meanX_2 : cX2_meanX.data.toList.drop 48 = dktX2_meanX_2 := dk_seg dksX2_meanX_1 24 rfl rfl
theorem dX2_meanX_0 : decode cX2_meanX 0 = .ok (.aload_n 0, 1) := dk_42 (dk_at dksX2_meanX_0 0 rfl rfl)
theorem dX2_meanX_1 : decode cX2_meanX 1 = .ok (.invokevirtual 229, 3) := dk_182 0 229 (dk_at dksX2_meanX_0 1 rfl rfl)
theorem dX2_meanX_4 : decode cX2_meanX 4 = .ok (.ifCond .eq 12, 3) := dk_153 0 12 (dk_at dksX2_meanX_0 4 rfl rfl)
theorem dX2_meanX_7 : decode cX2_meanX 7 = .ok (.aload_n 0, 1) := dk_42 (dk_at dksX2_meanX_0 7 rfl rfl)
theorem dX2_meanX_8 : decode cX2_meanX 8 = .ok (.getfield 9, 3) := dk_180 0 9 (dk_at dksX2_meanX_0 8 rfl rfl)
theorem dX2_meanX_11 : decode cX2_meanX 11 = .ok (.iconst 0, 1) := dk_3 (dk_at dksX2_meanX_0 11 rfl rfl)
theorem dX2_meanX_12 : decode cX2_meanX 12 = .ok (.iaload, 1) := dk_46 (dk_at dksX2_meanX_0 12 rfl rfl)
theorem dX2_meanX_13 : decode cX2_meanX 13 = .ok (.ifCond .ne 5, 3) := dk_154 0 5 (dk_at dksX2_meanX_0 13 rfl rfl)
theorem dX2_meanX_16 : decode cX2_meanX 16 = .ok (.dconst 0, 1) := dk_14 (dk_at dksX2_meanX_0 16 rfl rfl)
theorem dX2_meanX_17 : decode cX2_meanX 17 = .ok (.dreturn, 1) := dk_175 (dk_at dksX2_meanX_0 17 rfl rfl)
theorem dX2_meanX_18 : decode cX2_meanX 18 = .ok (.iconst 0, 1) := dk_3 (dk_at dksX2_meanX_0 18 rfl rfl)
theorem dX2_meanX_19 : decode cX2_meanX 19 = .ok (.istore_n 1, 1) := dk_60 (dk_at dksX2_meanX_0 19 rfl rfl)
theorem dX2_meanX_20 : decode cX2_meanX 20 = .ok (.iconst 0, 1) := dk_3 (dk_at dksX2_meanX_0 20 rfl rfl)
theorem dX2_meanX_21 : decode cX2_meanX 21 = .ok (.istore_n 2, 1) := dk_61 (dk_at dksX2_meanX_0 21 rfl rfl)
theorem dX2_meanX_22 : decode cX2_meanX 22 = .ok (.iload_n 2, 1) := dk_28 (dk_at dksX2_meanX_0 22 rfl rfl)
theorem dX2_meanX_23 : decode cX2_meanX 23 = .ok (.aload_n 0, 1) := dk_42 (dk_at dksX2_meanX_0 23 rfl rfl)
theorem dX2_meanX_24 : decode cX2_meanX 24 = .ok (.getfield 9, 3) := dk_180 0 9 (dk_at dksX2_meanX_1 0 rfl rfl)
theorem dX2_meanX_27 : decode cX2_meanX 27 = .ok (.iconst 0, 1) := dk_3 (dk_at dksX2_meanX_1 3 rfl rfl)
theorem dX2_meanX_28 : decode cX2_meanX 28 = .ok (.iaload, 1) := dk_46 (dk_at dksX2_meanX_1 4 rfl rfl)
theorem dX2_meanX_29 : decode cX2_meanX 29 = .ok (.if_icmp .ge 18, 3) := dk_162 0 18 (dk_at dksX2_meanX_1 5 rfl rfl)
theorem dX2_meanX_32 : decode cX2_meanX 32 = .ok (.iload_n 1, 1) := dk_27 (dk_at dksX2_meanX_1 8 rfl rfl)
theorem dX2_meanX_33 : decode cX2_meanX 33 = .ok (.aload_n 0, 1) := dk_42 (dk_at dksX2_meanX_1 9 rfl rfl)
theorem dX2_meanX_34 : decode cX2_meanX 34 = .ok (.iload_n 2, 1) := dk_28 (dk_at dksX2_meanX_1 10 rfl rfl)
theorem dX2_meanX_35 : decode cX2_meanX 35 = .ok (.iconst 0, 1) := dk_3 (dk_at dksX2_meanX_1 11 rfl rfl)
theorem dX2_meanX_36 : decode cX2_meanX 36 = .ok (.invokevirtual 163, 3) := dk_182 0 163 (dk_at dksX2_meanX_1 12 rfl rfl)
theorem dX2_meanX_39 : decode cX2_meanX 39 = .ok (.iadd, 1) := dk_96 (dk_at dksX2_meanX_1 15 rfl rfl)
theorem dX2_meanX_40 : decode cX2_meanX 40 = .ok (.istore_n 1, 1) := dk_60 (dk_at dksX2_meanX_1 16 rfl rfl)
theorem dX2_meanX_41 : decode cX2_meanX 41 = .ok (.iinc 2 1, 3) := dk_132 2 1 (dk_at dksX2_meanX_1 17 rfl rfl)
theorem dX2_meanX_44 : decode cX2_meanX 44 = .ok (.goto (-22), 3) := dk_167 255 234 (dk_at dksX2_meanX_1 20 rfl rfl)
theorem dX2_meanX_47 : decode cX2_meanX 47 = .ok (.iload_n 1, 1) := dk_27 (dk_at dksX2_meanX_1 23 rfl rfl)
theorem dX2_meanX_48 : decode cX2_meanX 48 = .ok (.i2d, 1) := dk_135 (dk_at dksX2_meanX_2 0 rfl rfl)
theorem dX2_meanX_49 : decode cX2_meanX 49 = .ok (.aload_n 0, 1) := dk_42 (dk_at dksX2_meanX_2 1 rfl rfl)
theorem dX2_meanX_50 : decode cX2_meanX 50 = .ok (.getfield 9, 3) := dk_180 0 9 (dk_at dksX2_meanX_2 2 rfl rfl)
theorem dX2_meanX_53 : decode cX2_meanX 53 = .ok (.iconst 0, 1) := dk_3 (dk_at dksX2_meanX_2 5 rfl rfl)
theorem dX2_meanX_54 : decode cX2_meanX 54 = .ok (.iaload, 1) := dk_46 (dk_at dksX2_meanX_2 6 rfl rfl)
theorem dX2_meanX_55 : decode cX2_meanX 55 = .ok (.i2d, 1) := dk_135 (dk_at dksX2_meanX_2 7 rfl rfl)
theorem dX2_meanX_56 : decode cX2_meanX 56 = .ok (.ddiv, 1) := dk_111 (dk_at dksX2_meanX_2 8 rfl rfl)
theorem dX2_meanX_57 : decode cX2_meanX 57 = .ok (.dreturn, 1) := dk_175 (dk_at dksX2_meanX_2 9 rfl rfl)
abbrev cX2_writesByte : ByteArray := prog_10_method_127_code
def yX2_writesByte : MethodName := ⟨RX2, "writesByte", "(I)V"⟩
def dkwX2_writesByte_0 : List UInt8 := [42, 180, 0, 54, 42, 180, 1, 126, 27, 145, 84, 42, 89, 180, 1, 126, 4, 96, 181, 1, 126, 177]
abbrev dktX2_writesByte_0 : List UInt8 := dkwX2_writesByte_0 ++ []
theorem dksX2_writesByte_0 : cX2_writesByte.data.toList.drop 0 = dktX2_writesByte_0 := by decide +kernel
theorem dX2_writesByte_0 : decode cX2_writesByte 0 = .ok (.aload_n 0, 1) := dk_42 (dk_at dksX2_writesByte_0 0 rfl rfl)
theorem dX2_writesByte_1 : decode cX2_writesByte 1 = .ok (.getfield 54, 3) := dk_180 0 54 (dk_at dksX2_writesByte_0 1 rfl rfl)
theorem dX2_writesByte_4 : decode cX2_writesByte 4 = .ok (.aload_n 0, 1) := dk_42 (dk_at dksX2_writesByte_0 4 rfl rfl)
theorem dX2_writesByte_5 : decode cX2_writesByte 5 = .ok (.getfield 382, 3) := dk_180 1 126 (dk_at dksX2_writesByte_0 5 rfl rfl)
theorem dX2_writesByte_8 : decode cX2_writesByte 8 = .ok (.iload_n 1, 1) := dk_27 (dk_at dksX2_writesByte_0 8 rfl rfl)
theorem dX2_writesByte_9 : decode cX2_writesByte 9 = .ok (.i2b, 1) := dk_145 (dk_at dksX2_writesByte_0 9 rfl rfl)
theorem dX2_writesByte_10 : decode cX2_writesByte 10 = .ok (.bastore, 1) := dk_84 (dk_at dksX2_writesByte_0 10 rfl rfl)
theorem dX2_writesByte_11 : decode cX2_writesByte 11 = .ok (.aload_n 0, 1) := dk_42 (dk_at dksX2_writesByte_0 11 rfl rfl)
theorem dX2_writesByte_12 : decode cX2_writesByte 12 = .ok (.dup, 1) := dk_89 (dk_at dksX2_writesByte_0 12 rfl rfl)
theorem dX2_writesByte_13 : decode cX2_writesByte 13 = .ok (.getfield 382, 3) := dk_180 1 126 (dk_at dksX2_writesByte_0 13 rfl rfl)
theorem dX2_writesByte_16 : decode cX2_writesByte 16 = .ok (.iconst 1, 1) := dk_4 (dk_at dksX2_writesByte_0 16 rfl rfl)
theorem dX2_writesByte_17 : decode cX2_writesByte 17 = .ok (.iadd, 1) := dk_96 (dk_at dksX2_writesByte_0 17 rfl rfl)
theorem dX2_writesByte_18 : decode cX2_writesByte 18 = .ok (.putfield 382, 3) := dk_181 1 126 (dk_at dksX2_writesByte_0 18 rfl rfl)
theorem dX2_writesByte_21 : decode cX2_writesByte 21 = .ok (.return_, 1) := dk_177 (dk_at dksX2_writesByte_0 21 rfl rfl)
abbrev cX2_writeLeaves : ByteArray := prog_10_method_129_code
def yX2_writeLeaves : MethodName := ⟨RX2, "writeLeaves", "()I"⟩
def dkwX2_writeLeaves_3 : List UInt8 := [180, 1, 126, 172]
abbrev dktX2_writeLeaves_3 : List UInt8 := dkwX2_writeLeaves_3 ++ []
def dkwX2_writeLeaves_2 : List UInt8 := [16, 48, 28, 96, 167, 0, 10, 16, 97, 28, 96, 16, 10, 100, 182, 1, 129, 132, 1, 1, 167, 255, 205, 42]
abbrev dktX2_writeLeaves_2 : List UInt8 := dkwX2_writeLeaves_2 ++ dktX2_writeLeaves_3
def dkwX2_writeLeaves_1 : List UInt8 := [120, 162, 0, 45, 42, 42, 180, 0, 9, 6, 46, 27, 182, 0, 190, 61, 42, 28, 16, 10, 162, 0, 10]
abbrev dktX2_writeLeaves_1 : List UInt8 := dkwX2_writeLeaves_1 ++ dktX2_writeLeaves_2
def dkwX2_writeLeaves_0 : List UInt8 := [42, 182, 0, 229, 154, 0, 5, 3, 172, 42, 3, 181, 1, 126, 3, 60, 27, 4, 42, 180, 0, 9, 6, 46]
abbrev dktX2_writeLeaves_0 : List UInt8 := dkwX2_writeLeaves_0 ++ dktX2_writeLeaves_1
theorem dksX2_writeLeaves_0 : cX2_writeLeaves.data.toList.drop 0 = dktX2_writeLeaves_0 := by decide +kernel
theorem dksX2_writeLeaves_1 : cX2_writeLeaves.data.toList.drop 24 = dktX2_writeLeaves_1 := dk_seg dksX2_writeLeaves_0 24 rfl rfl
theorem dksX2_writeLeaves_2 : cX2_writeLeaves.data.toList.drop 47 = dktX2_writeLeaves_2 := dk_seg dksX2_writeLeaves_1 23 rfl rfl
theorem dksX2_writeLeaves_3 : cX2_writeLeaves.data.toList.drop 71 = dktX2_writeLeaves_3 := dk_seg dksX2_writeLeaves_2 24 rfl rfl
theorem dX2_writeLeaves_0 : decode cX2_writeLeaves 0 = .ok (.aload_n 0, 1) := dk_42 (dk_at dksX2_writeLeaves_0 0 rfl rfl)
theorem dX2_writeLeaves_1 : decode cX2_writeLeaves 1 = .ok (.invokevirtual 229, 3) := dk_182 0 229 (dk_at dksX2_writeLeaves_0 1 rfl rfl)
theorem dX2_writeLeaves_4 : decode cX2_writeLeaves 4 = .ok (.ifCond .ne 5, 3) := dk_154 0 5 (dk_at dksX2_writeLeaves_0 4 rfl rfl)
theorem dX2_writeLeaves_7 : decode cX2_writeLeaves 7 = .ok (.iconst 0, 1) := dk_3 (dk_at dksX2_writeLeaves_0 7 rfl rfl)
theorem dX2_writeLeaves_8 : decode cX2_writeLeaves 8 = .ok (.ireturn, 1) := dk_172 (dk_at dksX2_writeLeaves_0 8 rfl rfl)
theorem dX2_writeLeaves_9 : decode cX2_writeLeaves 9 = .ok (.aload_n 0, 1) := dk_42 (dk_at dksX2_writeLeaves_0 9 rfl rfl)
theorem dX2_writeLeaves_10 : decode cX2_writeLeaves 10 = .ok (.iconst 0, 1) := dk_3 (dk_at dksX2_writeLeaves_0 10 rfl rfl)
theorem dX2_writeLeaves_11 : decode cX2_writeLeaves 11 = .ok (.putfield 382, 3) := dk_181 1 126 (dk_at dksX2_writeLeaves_0 11 rfl rfl)
theorem dX2_writeLeaves_14 : decode cX2_writeLeaves 14 = .ok (.iconst 0, 1) := dk_3 (dk_at dksX2_writeLeaves_0 14 rfl rfl)
theorem dX2_writeLeaves_15 : decode cX2_writeLeaves 15 = .ok (.istore_n 1, 1) := dk_60 (dk_at dksX2_writeLeaves_0 15 rfl rfl)
theorem dX2_writeLeaves_16 : decode cX2_writeLeaves 16 = .ok (.iload_n 1, 1) := dk_27 (dk_at dksX2_writeLeaves_0 16 rfl rfl)
theorem dX2_writeLeaves_17 : decode cX2_writeLeaves 17 = .ok (.iconst 1, 1) := dk_4 (dk_at dksX2_writeLeaves_0 17 rfl rfl)
theorem dX2_writeLeaves_18 : decode cX2_writeLeaves 18 = .ok (.aload_n 0, 1) := dk_42 (dk_at dksX2_writeLeaves_0 18 rfl rfl)
theorem dX2_writeLeaves_19 : decode cX2_writeLeaves 19 = .ok (.getfield 9, 3) := dk_180 0 9 (dk_at dksX2_writeLeaves_0 19 rfl rfl)
theorem dX2_writeLeaves_22 : decode cX2_writeLeaves 22 = .ok (.iconst 3, 1) := dk_6 (dk_at dksX2_writeLeaves_0 22 rfl rfl)
theorem dX2_writeLeaves_23 : decode cX2_writeLeaves 23 = .ok (.iaload, 1) := dk_46 (dk_at dksX2_writeLeaves_0 23 rfl rfl)
theorem dX2_writeLeaves_24 : decode cX2_writeLeaves 24 = .ok (.ishl, 1) := dk_120 (dk_at dksX2_writeLeaves_1 0 rfl rfl)
theorem dX2_writeLeaves_25 : decode cX2_writeLeaves 25 = .ok (.if_icmp .ge 45, 3) := dk_162 0 45 (dk_at dksX2_writeLeaves_1 1 rfl rfl)
theorem dX2_writeLeaves_28 : decode cX2_writeLeaves 28 = .ok (.aload_n 0, 1) := dk_42 (dk_at dksX2_writeLeaves_1 4 rfl rfl)
theorem dX2_writeLeaves_29 : decode cX2_writeLeaves 29 = .ok (.aload_n 0, 1) := dk_42 (dk_at dksX2_writeLeaves_1 5 rfl rfl)
theorem dX2_writeLeaves_30 : decode cX2_writeLeaves 30 = .ok (.getfield 9, 3) := dk_180 0 9 (dk_at dksX2_writeLeaves_1 6 rfl rfl)
theorem dX2_writeLeaves_33 : decode cX2_writeLeaves 33 = .ok (.iconst 3, 1) := dk_6 (dk_at dksX2_writeLeaves_1 9 rfl rfl)
theorem dX2_writeLeaves_34 : decode cX2_writeLeaves 34 = .ok (.iaload, 1) := dk_46 (dk_at dksX2_writeLeaves_1 10 rfl rfl)
theorem dX2_writeLeaves_35 : decode cX2_writeLeaves 35 = .ok (.iload_n 1, 1) := dk_27 (dk_at dksX2_writeLeaves_1 11 rfl rfl)
theorem dX2_writeLeaves_36 : decode cX2_writeLeaves 36 = .ok (.invokevirtual 190, 3) := dk_182 0 190 (dk_at dksX2_writeLeaves_1 12 rfl rfl)
theorem dX2_writeLeaves_39 : decode cX2_writeLeaves 39 = .ok (.istore_n 2, 1) := dk_61 (dk_at dksX2_writeLeaves_1 15 rfl rfl)
theorem dX2_writeLeaves_40 : decode cX2_writeLeaves 40 = .ok (.aload_n 0, 1) := dk_42 (dk_at dksX2_writeLeaves_1 16 rfl rfl)
theorem dX2_writeLeaves_41 : decode cX2_writeLeaves 41 = .ok (.iload_n 2, 1) := dk_28 (dk_at dksX2_writeLeaves_1 17 rfl rfl)
theorem dX2_writeLeaves_42 : decode cX2_writeLeaves 42 = .ok (.bipush 10, 2) := dk_16 10 (dk_at dksX2_writeLeaves_1 18 rfl rfl)
theorem dX2_writeLeaves_44 : decode cX2_writeLeaves 44 = .ok (.if_icmp .ge 10, 3) := dk_162 0 10 (dk_at dksX2_writeLeaves_1 20 rfl rfl)
theorem dX2_writeLeaves_47 : decode cX2_writeLeaves 47 = .ok (.bipush 48, 2) := dk_16 48 (dk_at dksX2_writeLeaves_2 0 rfl rfl)
theorem dX2_writeLeaves_49 : decode cX2_writeLeaves 49 = .ok (.iload_n 2, 1) := dk_28 (dk_at dksX2_writeLeaves_2 2 rfl rfl)
theorem dX2_writeLeaves_50 : decode cX2_writeLeaves 50 = .ok (.iadd, 1) := dk_96 (dk_at dksX2_writeLeaves_2 3 rfl rfl)
theorem dX2_writeLeaves_51 : decode cX2_writeLeaves 51 = .ok (.goto 10, 3) := dk_167 0 10 (dk_at dksX2_writeLeaves_2 4 rfl rfl)
theorem dX2_writeLeaves_54 : decode cX2_writeLeaves 54 = .ok (.bipush 97, 2) := dk_16 97 (dk_at dksX2_writeLeaves_2 7 rfl rfl)
theorem dX2_writeLeaves_56 : decode cX2_writeLeaves 56 = .ok (.iload_n 2, 1) := dk_28 (dk_at dksX2_writeLeaves_2 9 rfl rfl)
theorem dX2_writeLeaves_57 : decode cX2_writeLeaves 57 = .ok (.iadd, 1) := dk_96 (dk_at dksX2_writeLeaves_2 10 rfl rfl)
theorem dX2_writeLeaves_58 : decode cX2_writeLeaves 58 = .ok (.bipush 10, 2) := dk_16 10 (dk_at dksX2_writeLeaves_2 11 rfl rfl)
theorem dX2_writeLeaves_60 : decode cX2_writeLeaves 60 = .ok (.isub, 1) := dk_100 (dk_at dksX2_writeLeaves_2 13 rfl rfl)
theorem dX2_writeLeaves_61 : decode cX2_writeLeaves 61 = .ok (.invokevirtual 385, 3) := dk_182 1 129 (dk_at dksX2_writeLeaves_2 14 rfl rfl)
theorem dX2_writeLeaves_64 : decode cX2_writeLeaves 64 = .ok (.iinc 1 1, 3) := dk_132 1 1 (dk_at dksX2_writeLeaves_2 17 rfl rfl)
theorem dX2_writeLeaves_67 : decode cX2_writeLeaves 67 = .ok (.goto (-51), 3) := dk_167 255 205 (dk_at dksX2_writeLeaves_2 20 rfl rfl)
theorem dX2_writeLeaves_70 : decode cX2_writeLeaves 70 = .ok (.aload_n 0, 1) := dk_42 (dk_at dksX2_writeLeaves_2 23 rfl rfl)
theorem dX2_writeLeaves_71 : decode cX2_writeLeaves 71 = .ok (.getfield 382, 3) := dk_180 1 126 (dk_at dksX2_writeLeaves_3 0 rfl rfl)
theorem dX2_writeLeaves_74 : decode cX2_writeLeaves 74 = .ok (.ireturn, 1) := dk_172 (dk_at dksX2_writeLeaves_3 3 rfl rfl)
abbrev cX2_writesNumber : ByteArray := prog_10_method_128_code
def yX2_writesNumber : MethodName := ⟨RX2, "writesNumber", "(I)V"⟩
def dkwX2_writesNumber_1 : List UInt8 := [42, 16, 48, 27, 29, 108, 16, 10, 112, 96, 182, 1, 129, 29, 16, 10, 108, 62, 167, 255, 234, 177]
abbrev dktX2_writesNumber_1 : List UInt8 := dkwX2_writesNumber_1 ++ []
def dkwX2_writesNumber_0 : List UInt8 := [4, 61, 27, 28, 108, 16, 9, 164, 0, 11, 28, 16, 10, 104, 61, 167, 255, 243, 28, 62, 29, 158, 0, 24]
abbrev dktX2_writesNumber_0 : List UInt8 := dkwX2_writesNumber_0 ++ dktX2_writesNumber_1
theorem dksX2_writesNumber_0 : cX2_writesNumber.data.toList.drop 0 = dktX2_writesNumber_0 := by decide +kernel
theorem dksX2_writesNumber_1 : cX2_writesNumber.data.toList.drop 24 = dktX2_writesNumber_1 := dk_seg dksX2_writesNumber_0 24 rfl rfl
theorem dX2_writesNumber_0 : decode cX2_writesNumber 0 = .ok (.iconst 1, 1) := dk_4 (dk_at dksX2_writesNumber_0 0 rfl rfl)
theorem dX2_writesNumber_1 : decode cX2_writesNumber 1 = .ok (.istore_n 2, 1) := dk_61 (dk_at dksX2_writesNumber_0 1 rfl rfl)
theorem dX2_writesNumber_2 : decode cX2_writesNumber 2 = .ok (.iload_n 1, 1) := dk_27 (dk_at dksX2_writesNumber_0 2 rfl rfl)
theorem dX2_writesNumber_3 : decode cX2_writesNumber 3 = .ok (.iload_n 2, 1) := dk_28 (dk_at dksX2_writesNumber_0 3 rfl rfl)
theorem dX2_writesNumber_4 : decode cX2_writesNumber 4 = .ok (.idiv, 1) := dk_108 (dk_at dksX2_writesNumber_0 4 rfl rfl)
theorem dX2_writesNumber_5 : decode cX2_writesNumber 5 = .ok (.bipush 9, 2) := dk_16 9 (dk_at dksX2_writesNumber_0 5 rfl rfl)
theorem dX2_writesNumber_7 : decode cX2_writesNumber 7 = .ok (.if_icmp .le 11, 3) := dk_164 0 11 (dk_at dksX2_writesNumber_0 7 rfl rfl)
theorem dX2_writesNumber_10 : decode cX2_writesNumber 10 = .ok (.iload_n 2, 1) := dk_28 (dk_at dksX2_writesNumber_0 10 rfl rfl)
theorem dX2_writesNumber_11 : decode cX2_writesNumber 11 = .ok (.bipush 10, 2) := dk_16 10 (dk_at dksX2_writesNumber_0 11 rfl rfl)
theorem dX2_writesNumber_13 : decode cX2_writesNumber 13 = .ok (.imul, 1) := dk_104 (dk_at dksX2_writesNumber_0 13 rfl rfl)
theorem dX2_writesNumber_14 : decode cX2_writesNumber 14 = .ok (.istore_n 2, 1) := dk_61 (dk_at dksX2_writesNumber_0 14 rfl rfl)
theorem dX2_writesNumber_15 : decode cX2_writesNumber 15 = .ok (.goto (-13), 3) := dk_167 255 243 (dk_at dksX2_writesNumber_0 15 rfl rfl)
theorem dX2_writesNumber_18 : decode cX2_writesNumber 18 = .ok (.iload_n 2, 1) := dk_28 (dk_at dksX2_writesNumber_0 18 rfl rfl)
theorem dX2_writesNumber_19 : decode cX2_writesNumber 19 = .ok (.istore_n 3, 1) := dk_62 (dk_at dksX2_writesNumber_0 19 rfl rfl)
theorem dX2_writesNumber_20 : decode cX2_writesNumber 20 = .ok (.iload_n 3, 1) := dk_29 (dk_at dksX2_writesNumber_0 20 rfl rfl)
theorem dX2_writesNumber_21 : decode cX2_writesNumber 21 = .ok (.ifCond .le 24, 3) := dk_158 0 24 (dk_at dksX2_writesNumber_0 21 rfl rfl)
theorem dX2_writesNumber_24 : decode cX2_writesNumber 24 = .ok (.aload_n 0, 1) := dk_42 (dk_at dksX2_writesNumber_1 0 rfl rfl)
theorem dX2_writesNumber_25 : decode cX2_writesNumber 25 = .ok (.bipush 48, 2) := dk_16 48 (dk_at dksX2_writesNumber_1 1 rfl rfl)
theorem dX2_writesNumber_27 : decode cX2_writesNumber 27 = .ok (.iload_n 1, 1) := dk_27 (dk_at dksX2_writesNumber_1 3 rfl rfl)
theorem dX2_writesNumber_28 : decode cX2_writesNumber 28 = .ok (.iload_n 3, 1) := dk_29 (dk_at dksX2_writesNumber_1 4 rfl rfl)
theorem dX2_writesNumber_29 : decode cX2_writesNumber 29 = .ok (.idiv, 1) := dk_108 (dk_at dksX2_writesNumber_1 5 rfl rfl)
theorem dX2_writesNumber_30 : decode cX2_writesNumber 30 = .ok (.bipush 10, 2) := dk_16 10 (dk_at dksX2_writesNumber_1 6 rfl rfl)
theorem dX2_writesNumber_32 : decode cX2_writesNumber 32 = .ok (.irem, 1) := dk_112 (dk_at dksX2_writesNumber_1 8 rfl rfl)
theorem dX2_writesNumber_33 : decode cX2_writesNumber 33 = .ok (.iadd, 1) := dk_96 (dk_at dksX2_writesNumber_1 9 rfl rfl)
theorem dX2_writesNumber_34 : decode cX2_writesNumber 34 = .ok (.invokevirtual 385, 3) := dk_182 1 129 (dk_at dksX2_writesNumber_1 10 rfl rfl)
theorem dX2_writesNumber_37 : decode cX2_writesNumber 37 = .ok (.iload_n 3, 1) := dk_29 (dk_at dksX2_writesNumber_1 13 rfl rfl)
theorem dX2_writesNumber_38 : decode cX2_writesNumber 38 = .ok (.bipush 10, 2) := dk_16 10 (dk_at dksX2_writesNumber_1 14 rfl rfl)
theorem dX2_writesNumber_40 : decode cX2_writesNumber 40 = .ok (.idiv, 1) := dk_108 (dk_at dksX2_writesNumber_1 16 rfl rfl)
theorem dX2_writesNumber_41 : decode cX2_writesNumber 41 = .ok (.istore_n 3, 1) := dk_62 (dk_at dksX2_writesNumber_1 17 rfl rfl)
theorem dX2_writesNumber_42 : decode cX2_writesNumber 42 = .ok (.goto (-22), 3) := dk_167 255 234 (dk_at dksX2_writesNumber_1 18 rfl rfl)
theorem dX2_writesNumber_45 : decode cX2_writesNumber 45 = .ok (.return_, 1) := dk_177 (dk_at dksX2_writesNumber_1 21 rfl rfl)
abbrev cX2_writesBody : ByteArray := prog_10_method_130_code
def yX2_writesBody : MethodName := ⟨RX2, "writesBody", "(I)V"⟩
def dkwX2_writesBody_2 : List UInt8 := [42, 42, 27, 4, 182, 0, 163, 3, 184, 0, 187, 182, 1, 132, 177]
abbrev dktX2_writesBody_2 : List UInt8 := dkwX2_writesBody_2 ++ []
def dkwX2_writesBody_1 : List UInt8 := [182, 1, 129, 42, 16, 58, 182, 1, 129, 42, 27, 4, 182, 0, 163, 156, 0, 9, 42, 16, 45, 182, 1, 129]
abbrev dktX2_writesBody_1 : List UInt8 := dkwX2_writesBody_1 ++ dktX2_writesBody_2
def dkwX2_writesBody_0 : List UInt8 := [42, 42, 27, 3, 182, 0, 163, 182, 1, 132, 42, 27, 5, 182, 0, 163, 4, 160, 0, 9, 42, 16, 42]
abbrev dktX2_writesBody_0 : List UInt8 := dkwX2_writesBody_0 ++ dktX2_writesBody_1
theorem dksX2_writesBody_0 : cX2_writesBody.data.toList.drop 0 = dktX2_writesBody_0 := by decide +kernel
theorem dksX2_writesBody_1 : cX2_writesBody.data.toList.drop 23 = dktX2_writesBody_1 := dk_seg dksX2_writesBody_0 23 rfl rfl
theorem dksX2_writesBody_2 : cX2_writesBody.data.toList.drop 47 = dktX2_writesBody_2 := dk_seg dksX2_writesBody_1 24 rfl rfl
theorem dX2_writesBody_0 : decode cX2_writesBody 0 = .ok (.aload_n 0, 1) := dk_42 (dk_at dksX2_writesBody_0 0 rfl rfl)
theorem dX2_writesBody_1 : decode cX2_writesBody 1 = .ok (.aload_n 0, 1) := dk_42 (dk_at dksX2_writesBody_0 1 rfl rfl)
theorem dX2_writesBody_2 : decode cX2_writesBody 2 = .ok (.iload_n 1, 1) := dk_27 (dk_at dksX2_writesBody_0 2 rfl rfl)
theorem dX2_writesBody_3 : decode cX2_writesBody 3 = .ok (.iconst 0, 1) := dk_3 (dk_at dksX2_writesBody_0 3 rfl rfl)
theorem dX2_writesBody_4 : decode cX2_writesBody 4 = .ok (.invokevirtual 163, 3) := dk_182 0 163 (dk_at dksX2_writesBody_0 4 rfl rfl)
theorem dX2_writesBody_7 : decode cX2_writesBody 7 = .ok (.invokevirtual 388, 3) := dk_182 1 132 (dk_at dksX2_writesBody_0 7 rfl rfl)
theorem dX2_writesBody_10 : decode cX2_writesBody 10 = .ok (.aload_n 0, 1) := dk_42 (dk_at dksX2_writesBody_0 10 rfl rfl)
theorem dX2_writesBody_11 : decode cX2_writesBody 11 = .ok (.iload_n 1, 1) := dk_27 (dk_at dksX2_writesBody_0 11 rfl rfl)
theorem dX2_writesBody_12 : decode cX2_writesBody 12 = .ok (.iconst 2, 1) := dk_5 (dk_at dksX2_writesBody_0 12 rfl rfl)
theorem dX2_writesBody_13 : decode cX2_writesBody 13 = .ok (.invokevirtual 163, 3) := dk_182 0 163 (dk_at dksX2_writesBody_0 13 rfl rfl)
theorem dX2_writesBody_16 : decode cX2_writesBody 16 = .ok (.iconst 1, 1) := dk_4 (dk_at dksX2_writesBody_0 16 rfl rfl)
theorem dX2_writesBody_17 : decode cX2_writesBody 17 = .ok (.if_icmp .ne 9, 3) := dk_160 0 9 (dk_at dksX2_writesBody_0 17 rfl rfl)
theorem dX2_writesBody_20 : decode cX2_writesBody 20 = .ok (.aload_n 0, 1) := dk_42 (dk_at dksX2_writesBody_0 20 rfl rfl)
theorem dX2_writesBody_21 : decode cX2_writesBody 21 = .ok (.bipush 42, 2) := dk_16 42 (dk_at dksX2_writesBody_0 21 rfl rfl)
theorem dX2_writesBody_23 : decode cX2_writesBody 23 = .ok (.invokevirtual 385, 3) := dk_182 1 129 (dk_at dksX2_writesBody_1 0 rfl rfl)
theorem dX2_writesBody_26 : decode cX2_writesBody 26 = .ok (.aload_n 0, 1) := dk_42 (dk_at dksX2_writesBody_1 3 rfl rfl)
theorem dX2_writesBody_27 : decode cX2_writesBody 27 = .ok (.bipush 58, 2) := dk_16 58 (dk_at dksX2_writesBody_1 4 rfl rfl)
theorem dX2_writesBody_29 : decode cX2_writesBody 29 = .ok (.invokevirtual 385, 3) := dk_182 1 129 (dk_at dksX2_writesBody_1 6 rfl rfl)
theorem dX2_writesBody_32 : decode cX2_writesBody 32 = .ok (.aload_n 0, 1) := dk_42 (dk_at dksX2_writesBody_1 9 rfl rfl)
theorem dX2_writesBody_33 : decode cX2_writesBody 33 = .ok (.iload_n 1, 1) := dk_27 (dk_at dksX2_writesBody_1 10 rfl rfl)
theorem dX2_writesBody_34 : decode cX2_writesBody 34 = .ok (.iconst 1, 1) := dk_4 (dk_at dksX2_writesBody_1 11 rfl rfl)
theorem dX2_writesBody_35 : decode cX2_writesBody 35 = .ok (.invokevirtual 163, 3) := dk_182 0 163 (dk_at dksX2_writesBody_1 12 rfl rfl)
theorem dX2_writesBody_38 : decode cX2_writesBody 38 = .ok (.ifCond .ge 9, 3) := dk_156 0 9 (dk_at dksX2_writesBody_1 15 rfl rfl)
theorem dX2_writesBody_41 : decode cX2_writesBody 41 = .ok (.aload_n 0, 1) := dk_42 (dk_at dksX2_writesBody_1 18 rfl rfl)
theorem dX2_writesBody_42 : decode cX2_writesBody 42 = .ok (.bipush 45, 2) := dk_16 45 (dk_at dksX2_writesBody_1 19 rfl rfl)
theorem dX2_writesBody_44 : decode cX2_writesBody 44 = .ok (.invokevirtual 385, 3) := dk_182 1 129 (dk_at dksX2_writesBody_1 21 rfl rfl)
theorem dX2_writesBody_47 : decode cX2_writesBody 47 = .ok (.aload_n 0, 1) := dk_42 (dk_at dksX2_writesBody_2 0 rfl rfl)
theorem dX2_writesBody_48 : decode cX2_writesBody 48 = .ok (.aload_n 0, 1) := dk_42 (dk_at dksX2_writesBody_2 1 rfl rfl)
theorem dX2_writesBody_49 : decode cX2_writesBody 49 = .ok (.iload_n 1, 1) := dk_27 (dk_at dksX2_writesBody_2 2 rfl rfl)
theorem dX2_writesBody_50 : decode cX2_writesBody 50 = .ok (.iconst 1, 1) := dk_4 (dk_at dksX2_writesBody_2 3 rfl rfl)
theorem dX2_writesBody_51 : decode cX2_writesBody 51 = .ok (.invokevirtual 163, 3) := dk_182 0 163 (dk_at dksX2_writesBody_2 4 rfl rfl)
theorem dX2_writesBody_54 : decode cX2_writesBody 54 = .ok (.iconst 0, 1) := dk_3 (dk_at dksX2_writesBody_2 7 rfl rfl)
theorem dX2_writesBody_55 : decode cX2_writesBody 55 = .ok (.invokestatic 187, 3) := dk_184 0 187 (dk_at dksX2_writesBody_2 8 rfl rfl)
theorem dX2_writesBody_58 : decode cX2_writesBody 58 = .ok (.invokevirtual 388, 3) := dk_182 1 132 (dk_at dksX2_writesBody_2 11 rfl rfl)
theorem dX2_writesBody_61 : decode cX2_writesBody 61 = .ok (.return_, 1) := dk_177 (dk_at dksX2_writesBody_2 14 rfl rfl)
abbrev cX2_writeBodies : ByteArray := prog_10_method_131_code
def yX2_writeBodies : MethodName := ⟨RX2, "writeBodies", "()I"⟩
def dkwX2_writeBodies_2 : List UInt8 := [182, 1, 129, 42, 27, 182, 1, 135, 132, 1, 1, 167, 255, 228, 42, 180, 1, 126, 172]
abbrev dktX2_writeBodies_2 : List UInt8 := dkwX2_writeBodies_2 ++ []
def dkwX2_writeBodies_1 : List UInt8 := [16, 46, 182, 1, 129, 3, 60, 27, 42, 180, 0, 9, 3, 46, 162, 0, 24, 27, 158, 0, 9, 42, 16, 32]
abbrev dktX2_writeBodies_1 : List UInt8 := dkwX2_writeBodies_1 ++ dktX2_writeBodies_2
def dkwX2_writeBodies_0 : List UInt8 := [42, 182, 0, 229, 154, 0, 5, 3, 172, 42, 3, 181, 1, 126, 42, 180, 0, 9, 3, 46, 154, 0, 9, 42]
abbrev dktX2_writeBodies_0 : List UInt8 := dkwX2_writeBodies_0 ++ dktX2_writeBodies_1
theorem dksX2_writeBodies_0 : cX2_writeBodies.data.toList.drop 0 = dktX2_writeBodies_0 := by decide +kernel
theorem dksX2_writeBodies_1 : cX2_writeBodies.data.toList.drop 24 = dktX2_writeBodies_1 := dk_seg dksX2_writeBodies_0 24 rfl rfl
theorem dksX2_writeBodies_2 : cX2_writeBodies.data.toList.drop 48 = dktX2_writeBodies_2 := dk_seg dksX2_writeBodies_1 24 rfl rfl
theorem dX2_writeBodies_0 : decode cX2_writeBodies 0 = .ok (.aload_n 0, 1) := dk_42 (dk_at dksX2_writeBodies_0 0 rfl rfl)
theorem dX2_writeBodies_1 : decode cX2_writeBodies 1 = .ok (.invokevirtual 229, 3) := dk_182 0 229 (dk_at dksX2_writeBodies_0 1 rfl rfl)
theorem dX2_writeBodies_4 : decode cX2_writeBodies 4 = .ok (.ifCond .ne 5, 3) := dk_154 0 5 (dk_at dksX2_writeBodies_0 4 rfl rfl)
theorem dX2_writeBodies_7 : decode cX2_writeBodies 7 = .ok (.iconst 0, 1) := dk_3 (dk_at dksX2_writeBodies_0 7 rfl rfl)
theorem dX2_writeBodies_8 : decode cX2_writeBodies 8 = .ok (.ireturn, 1) := dk_172 (dk_at dksX2_writeBodies_0 8 rfl rfl)
theorem dX2_writeBodies_9 : decode cX2_writeBodies 9 = .ok (.aload_n 0, 1) := dk_42 (dk_at dksX2_writeBodies_0 9 rfl rfl)
theorem dX2_writeBodies_10 : decode cX2_writeBodies 10 = .ok (.iconst 0, 1) := dk_3 (dk_at dksX2_writeBodies_0 10 rfl rfl)
theorem dX2_writeBodies_11 : decode cX2_writeBodies 11 = .ok (.putfield 382, 3) := dk_181 1 126 (dk_at dksX2_writeBodies_0 11 rfl rfl)
theorem dX2_writeBodies_14 : decode cX2_writeBodies 14 = .ok (.aload_n 0, 1) := dk_42 (dk_at dksX2_writeBodies_0 14 rfl rfl)
theorem dX2_writeBodies_15 : decode cX2_writeBodies 15 = .ok (.getfield 9, 3) := dk_180 0 9 (dk_at dksX2_writeBodies_0 15 rfl rfl)
theorem dX2_writeBodies_18 : decode cX2_writeBodies 18 = .ok (.iconst 0, 1) := dk_3 (dk_at dksX2_writeBodies_0 18 rfl rfl)
theorem dX2_writeBodies_19 : decode cX2_writeBodies 19 = .ok (.iaload, 1) := dk_46 (dk_at dksX2_writeBodies_0 19 rfl rfl)
theorem dX2_writeBodies_20 : decode cX2_writeBodies 20 = .ok (.ifCond .ne 9, 3) := dk_154 0 9 (dk_at dksX2_writeBodies_0 20 rfl rfl)
theorem dX2_writeBodies_23 : decode cX2_writeBodies 23 = .ok (.aload_n 0, 1) := dk_42 (dk_at dksX2_writeBodies_0 23 rfl rfl)
theorem dX2_writeBodies_24 : decode cX2_writeBodies 24 = .ok (.bipush 46, 2) := dk_16 46 (dk_at dksX2_writeBodies_1 0 rfl rfl)
theorem dX2_writeBodies_26 : decode cX2_writeBodies 26 = .ok (.invokevirtual 385, 3) := dk_182 1 129 (dk_at dksX2_writeBodies_1 2 rfl rfl)
theorem dX2_writeBodies_29 : decode cX2_writeBodies 29 = .ok (.iconst 0, 1) := dk_3 (dk_at dksX2_writeBodies_1 5 rfl rfl)
theorem dX2_writeBodies_30 : decode cX2_writeBodies 30 = .ok (.istore_n 1, 1) := dk_60 (dk_at dksX2_writeBodies_1 6 rfl rfl)
theorem dX2_writeBodies_31 : decode cX2_writeBodies 31 = .ok (.iload_n 1, 1) := dk_27 (dk_at dksX2_writeBodies_1 7 rfl rfl)
theorem dX2_writeBodies_32 : decode cX2_writeBodies 32 = .ok (.aload_n 0, 1) := dk_42 (dk_at dksX2_writeBodies_1 8 rfl rfl)
theorem dX2_writeBodies_33 : decode cX2_writeBodies 33 = .ok (.getfield 9, 3) := dk_180 0 9 (dk_at dksX2_writeBodies_1 9 rfl rfl)
theorem dX2_writeBodies_36 : decode cX2_writeBodies 36 = .ok (.iconst 0, 1) := dk_3 (dk_at dksX2_writeBodies_1 12 rfl rfl)
theorem dX2_writeBodies_37 : decode cX2_writeBodies 37 = .ok (.iaload, 1) := dk_46 (dk_at dksX2_writeBodies_1 13 rfl rfl)
theorem dX2_writeBodies_38 : decode cX2_writeBodies 38 = .ok (.if_icmp .ge 24, 3) := dk_162 0 24 (dk_at dksX2_writeBodies_1 14 rfl rfl)
theorem dX2_writeBodies_41 : decode cX2_writeBodies 41 = .ok (.iload_n 1, 1) := dk_27 (dk_at dksX2_writeBodies_1 17 rfl rfl)
theorem dX2_writeBodies_42 : decode cX2_writeBodies 42 = .ok (.ifCond .le 9, 3) := dk_158 0 9 (dk_at dksX2_writeBodies_1 18 rfl rfl)
theorem dX2_writeBodies_45 : decode cX2_writeBodies 45 = .ok (.aload_n 0, 1) := dk_42 (dk_at dksX2_writeBodies_1 21 rfl rfl)
theorem dX2_writeBodies_46 : decode cX2_writeBodies 46 = .ok (.bipush 32, 2) := dk_16 32 (dk_at dksX2_writeBodies_1 22 rfl rfl)
theorem dX2_writeBodies_48 : decode cX2_writeBodies 48 = .ok (.invokevirtual 385, 3) := dk_182 1 129 (dk_at dksX2_writeBodies_2 0 rfl rfl)
theorem dX2_writeBodies_51 : decode cX2_writeBodies 51 = .ok (.aload_n 0, 1) := dk_42 (dk_at dksX2_writeBodies_2 3 rfl rfl)
theorem dX2_writeBodies_52 : decode cX2_writeBodies 52 = .ok (.iload_n 1, 1) := dk_27 (dk_at dksX2_writeBodies_2 4 rfl rfl)
theorem dX2_writeBodies_53 : decode cX2_writeBodies 53 = .ok (.invokevirtual 391, 3) := dk_182 1 135 (dk_at dksX2_writeBodies_2 5 rfl rfl)
theorem dX2_writeBodies_56 : decode cX2_writeBodies 56 = .ok (.iinc 1 1, 3) := dk_132 1 1 (dk_at dksX2_writeBodies_2 8 rfl rfl)
theorem dX2_writeBodies_59 : decode cX2_writeBodies 59 = .ok (.goto (-28), 3) := dk_167 255 228 (dk_at dksX2_writeBodies_2 11 rfl rfl)
theorem dX2_writeBodies_62 : decode cX2_writeBodies 62 = .ok (.aload_n 0, 1) := dk_42 (dk_at dksX2_writeBodies_2 14 rfl rfl)
theorem dX2_writeBodies_63 : decode cX2_writeBodies 63 = .ok (.getfield 382, 3) := dk_180 1 126 (dk_at dksX2_writeBodies_2 15 rfl rfl)
theorem dX2_writeBodies_66 : decode cX2_writeBodies 66 = .ok (.ireturn, 1) := dk_172 (dk_at dksX2_writeBodies_2 18 rfl rfl)
abbrev cX2_writesWord : ByteArray := prog_10_method_132_code
def yX2_writesWord : MethodName := ⟨RX2, "writesWord", "(Ljava/lang/String;)V"⟩
def dkwX2_writesWord_1 : List UInt8 := [167, 255, 236, 177]
abbrev dktX2_writesWord_1 : List UInt8 := dkwX2_writesWord_1 ++ []
def dkwX2_writesWord_0 : List UInt8 := [3, 61, 28, 43, 182, 0, 103, 162, 0, 18, 42, 43, 28, 182, 0, 109, 182, 1, 129, 132, 2, 1]
abbrev dktX2_writesWord_0 : List UInt8 := dkwX2_writesWord_0 ++ dktX2_writesWord_1
theorem dksX2_writesWord_0 : cX2_writesWord.data.toList.drop 0 = dktX2_writesWord_0 := by decide +kernel
theorem dksX2_writesWord_1 : cX2_writesWord.data.toList.drop 22 = dktX2_writesWord_1 := dk_seg dksX2_writesWord_0 22 rfl rfl
theorem dX2_writesWord_0 : decode cX2_writesWord 0 = .ok (.iconst 0, 1) := dk_3 (dk_at dksX2_writesWord_0 0 rfl rfl)
theorem dX2_writesWord_1 : decode cX2_writesWord 1 = .ok (.istore_n 2, 1) := dk_61 (dk_at dksX2_writesWord_0 1 rfl rfl)
theorem dX2_writesWord_2 : decode cX2_writesWord 2 = .ok (.iload_n 2, 1) := dk_28 (dk_at dksX2_writesWord_0 2 rfl rfl)
theorem dX2_writesWord_3 : decode cX2_writesWord 3 = .ok (.aload_n 1, 1) := dk_43 (dk_at dksX2_writesWord_0 3 rfl rfl)
theorem dX2_writesWord_4 : decode cX2_writesWord 4 = .ok (.invokevirtual 103, 3) := dk_182 0 103 (dk_at dksX2_writesWord_0 4 rfl rfl)
theorem dX2_writesWord_7 : decode cX2_writesWord 7 = .ok (.if_icmp .ge 18, 3) := dk_162 0 18 (dk_at dksX2_writesWord_0 7 rfl rfl)
theorem dX2_writesWord_10 : decode cX2_writesWord 10 = .ok (.aload_n 0, 1) := dk_42 (dk_at dksX2_writesWord_0 10 rfl rfl)
theorem dX2_writesWord_11 : decode cX2_writesWord 11 = .ok (.aload_n 1, 1) := dk_43 (dk_at dksX2_writesWord_0 11 rfl rfl)
theorem dX2_writesWord_12 : decode cX2_writesWord 12 = .ok (.iload_n 2, 1) := dk_28 (dk_at dksX2_writesWord_0 12 rfl rfl)
theorem dX2_writesWord_13 : decode cX2_writesWord 13 = .ok (.invokevirtual 109, 3) := dk_182 0 109 (dk_at dksX2_writesWord_0 13 rfl rfl)
theorem dX2_writesWord_16 : decode cX2_writesWord 16 = .ok (.invokevirtual 385, 3) := dk_182 1 129 (dk_at dksX2_writesWord_0 16 rfl rfl)
theorem dX2_writesWord_19 : decode cX2_writesWord 19 = .ok (.iinc 2 1, 3) := dk_132 2 1 (dk_at dksX2_writesWord_0 19 rfl rfl)
theorem dX2_writesWord_22 : decode cX2_writesWord 22 = .ok (.goto (-20), 3) := dk_167 255 236 (dk_at dksX2_writesWord_1 0 rfl rfl)
theorem dX2_writesWord_25 : decode cX2_writesWord 25 = .ok (.return_, 1) := dk_177 (dk_at dksX2_writesWord_1 3 rfl rfl)
abbrev cX2_writesToken : ByteArray := prog_10_method_133_code
def yX2_writesToken : MethodName := ⟨RX2, "writesToken", "(I)V"⟩
def dkwX2_writesToken_0 : List UInt8 := [42, 16, 32, 182, 1, 129, 42, 27, 182, 1, 132, 177]
abbrev dktX2_writesToken_0 : List UInt8 := dkwX2_writesToken_0 ++ []
theorem dksX2_writesToken_0 : cX2_writesToken.data.toList.drop 0 = dktX2_writesToken_0 := by decide +kernel
theorem dX2_writesToken_0 : decode cX2_writesToken 0 = .ok (.aload_n 0, 1) := dk_42 (dk_at dksX2_writesToken_0 0 rfl rfl)
theorem dX2_writesToken_1 : decode cX2_writesToken 1 = .ok (.bipush 32, 2) := dk_16 32 (dk_at dksX2_writesToken_0 1 rfl rfl)
theorem dX2_writesToken_3 : decode cX2_writesToken 3 = .ok (.invokevirtual 385, 3) := dk_182 1 129 (dk_at dksX2_writesToken_0 3 rfl rfl)
theorem dX2_writesToken_6 : decode cX2_writesToken 6 = .ok (.aload_n 0, 1) := dk_42 (dk_at dksX2_writesToken_0 6 rfl rfl)
theorem dX2_writesToken_7 : decode cX2_writesToken 7 = .ok (.iload_n 1, 1) := dk_27 (dk_at dksX2_writesToken_0 7 rfl rfl)
theorem dX2_writesToken_8 : decode cX2_writesToken 8 = .ok (.invokevirtual 388, 3) := dk_182 1 132 (dk_at dksX2_writesToken_0 8 rfl rfl)
theorem dX2_writesToken_11 : decode cX2_writesToken 11 = .ok (.return_, 1) := dk_177 (dk_at dksX2_writesToken_0 11 rfl rfl)
abbrev cX2_writeLine : ByteArray := prog_10_method_134_code
def yX2_writeLine : MethodName := ⟨RX2, "writeLine", "()I"⟩
def dkwX2_writeLine_5 : List UInt8 := [182, 1, 142, 132, 1, 1, 167, 255, 180, 42, 180, 1, 126, 172]
abbrev dktX2_writeLine_5 : List UInt8 := dkwX2_writeLine_5 ++ []
def dkwX2_writeLine_4 : List UInt8 := [182, 0, 163, 156, 0, 10, 42, 19, 1, 149, 182, 1, 138, 42, 42, 27, 4, 182, 0, 163, 3, 184, 0, 187]
abbrev dktX2_writeLine_4 : List UInt8 := dkwX2_writeLine_4 ++ dktX2_writeLine_5
def dkwX2_writeLine_3 : List UInt8 := [167, 0, 6, 19, 1, 147, 182, 1, 138, 42, 42, 27, 3, 182, 0, 163, 182, 1, 142, 42, 27, 4]
abbrev dktX2_writeLine_3 : List UInt8 := dkwX2_writeLine_3 ++ dktX2_writeLine_4
def dkwX2_writeLine_2 : List UInt8 := [180, 0, 9, 3, 46, 162, 0, 72, 42, 42, 27, 5, 182, 0, 163, 4, 160, 0, 9, 19, 1, 145]
abbrev dktX2_writeLine_2 : List UInt8 := dkwX2_writeLine_2 ++ dktX2_writeLine_3
def dkwX2_writeLine_1 : List UInt8 := [163, 0, 19, 42, 42, 180, 0, 9, 27, 46, 182, 1, 142, 132, 1, 1, 167, 255, 238, 3, 60, 27, 42]
abbrev dktX2_writeLine_1 : List UInt8 := dkwX2_writeLine_1 ++ dktX2_writeLine_2
def dkwX2_writeLine_0 : List UInt8 := [42, 182, 0, 229, 154, 0, 5, 3, 172, 42, 3, 181, 1, 126, 42, 18, 139, 182, 1, 138, 6, 60, 27, 8]
abbrev dktX2_writeLine_0 : List UInt8 := dkwX2_writeLine_0 ++ dktX2_writeLine_1
theorem dksX2_writeLine_0 : cX2_writeLine.data.toList.drop 0 = dktX2_writeLine_0 := by decide +kernel
theorem dksX2_writeLine_1 : cX2_writeLine.data.toList.drop 24 = dktX2_writeLine_1 := dk_seg dksX2_writeLine_0 24 rfl rfl
theorem dksX2_writeLine_2 : cX2_writeLine.data.toList.drop 47 = dktX2_writeLine_2 := dk_seg dksX2_writeLine_1 23 rfl rfl
theorem dksX2_writeLine_3 : cX2_writeLine.data.toList.drop 69 = dktX2_writeLine_3 := dk_seg dksX2_writeLine_2 22 rfl rfl
theorem dksX2_writeLine_4 : cX2_writeLine.data.toList.drop 91 = dktX2_writeLine_4 := dk_seg dksX2_writeLine_3 22 rfl rfl
theorem dksX2_writeLine_5 : cX2_writeLine.data.toList.drop 115 = dktX2_writeLine_5 := dk_seg dksX2_writeLine_4 24 rfl rfl
theorem dX2_writeLine_0 : decode cX2_writeLine 0 = .ok (.aload_n 0, 1) := dk_42 (dk_at dksX2_writeLine_0 0 rfl rfl)
theorem dX2_writeLine_1 : decode cX2_writeLine 1 = .ok (.invokevirtual 229, 3) := dk_182 0 229 (dk_at dksX2_writeLine_0 1 rfl rfl)
theorem dX2_writeLine_4 : decode cX2_writeLine 4 = .ok (.ifCond .ne 5, 3) := dk_154 0 5 (dk_at dksX2_writeLine_0 4 rfl rfl)
theorem dX2_writeLine_7 : decode cX2_writeLine 7 = .ok (.iconst 0, 1) := dk_3 (dk_at dksX2_writeLine_0 7 rfl rfl)
theorem dX2_writeLine_8 : decode cX2_writeLine 8 = .ok (.ireturn, 1) := dk_172 (dk_at dksX2_writeLine_0 8 rfl rfl)
theorem dX2_writeLine_9 : decode cX2_writeLine 9 = .ok (.aload_n 0, 1) := dk_42 (dk_at dksX2_writeLine_0 9 rfl rfl)
theorem dX2_writeLine_10 : decode cX2_writeLine 10 = .ok (.iconst 0, 1) := dk_3 (dk_at dksX2_writeLine_0 10 rfl rfl)
theorem dX2_writeLine_11 : decode cX2_writeLine 11 = .ok (.putfield 382, 3) := dk_181 1 126 (dk_at dksX2_writeLine_0 11 rfl rfl)
theorem dX2_writeLine_14 : decode cX2_writeLine 14 = .ok (.aload_n 0, 1) := dk_42 (dk_at dksX2_writeLine_0 14 rfl rfl)
theorem dX2_writeLine_15 : decode cX2_writeLine 15 = .ok (.ldc 139, 2) := dk_18 139 (dk_at dksX2_writeLine_0 15 rfl rfl)
theorem dX2_writeLine_17 : decode cX2_writeLine 17 = .ok (.invokevirtual 394, 3) := dk_182 1 138 (dk_at dksX2_writeLine_0 17 rfl rfl)
theorem dX2_writeLine_20 : decode cX2_writeLine 20 = .ok (.iconst 3, 1) := dk_6 (dk_at dksX2_writeLine_0 20 rfl rfl)
theorem dX2_writeLine_21 : decode cX2_writeLine 21 = .ok (.istore_n 1, 1) := dk_60 (dk_at dksX2_writeLine_0 21 rfl rfl)
theorem dX2_writeLine_22 : decode cX2_writeLine 22 = .ok (.iload_n 1, 1) := dk_27 (dk_at dksX2_writeLine_0 22 rfl rfl)
theorem dX2_writeLine_23 : decode cX2_writeLine 23 = .ok (.iconst 5, 1) := dk_8 (dk_at dksX2_writeLine_0 23 rfl rfl)
theorem dX2_writeLine_24 : decode cX2_writeLine 24 = .ok (.if_icmp .gt 19, 3) := dk_163 0 19 (dk_at dksX2_writeLine_1 0 rfl rfl)
theorem dX2_writeLine_27 : decode cX2_writeLine 27 = .ok (.aload_n 0, 1) := dk_42 (dk_at dksX2_writeLine_1 3 rfl rfl)
theorem dX2_writeLine_28 : decode cX2_writeLine 28 = .ok (.aload_n 0, 1) := dk_42 (dk_at dksX2_writeLine_1 4 rfl rfl)
theorem dX2_writeLine_29 : decode cX2_writeLine 29 = .ok (.getfield 9, 3) := dk_180 0 9 (dk_at dksX2_writeLine_1 5 rfl rfl)
theorem dX2_writeLine_32 : decode cX2_writeLine 32 = .ok (.iload_n 1, 1) := dk_27 (dk_at dksX2_writeLine_1 8 rfl rfl)
theorem dX2_writeLine_33 : decode cX2_writeLine 33 = .ok (.iaload, 1) := dk_46 (dk_at dksX2_writeLine_1 9 rfl rfl)
theorem dX2_writeLine_34 : decode cX2_writeLine 34 = .ok (.invokevirtual 398, 3) := dk_182 1 142 (dk_at dksX2_writeLine_1 10 rfl rfl)
theorem dX2_writeLine_37 : decode cX2_writeLine 37 = .ok (.iinc 1 1, 3) := dk_132 1 1 (dk_at dksX2_writeLine_1 13 rfl rfl)
theorem dX2_writeLine_40 : decode cX2_writeLine 40 = .ok (.goto (-18), 3) := dk_167 255 238 (dk_at dksX2_writeLine_1 16 rfl rfl)
theorem dX2_writeLine_43 : decode cX2_writeLine 43 = .ok (.iconst 0, 1) := dk_3 (dk_at dksX2_writeLine_1 19 rfl rfl)
theorem dX2_writeLine_44 : decode cX2_writeLine 44 = .ok (.istore_n 1, 1) := dk_60 (dk_at dksX2_writeLine_1 20 rfl rfl)
theorem dX2_writeLine_45 : decode cX2_writeLine 45 = .ok (.iload_n 1, 1) := dk_27 (dk_at dksX2_writeLine_1 21 rfl rfl)
theorem dX2_writeLine_46 : decode cX2_writeLine 46 = .ok (.aload_n 0, 1) := dk_42 (dk_at dksX2_writeLine_1 22 rfl rfl)
theorem dX2_writeLine_47 : decode cX2_writeLine 47 = .ok (.getfield 9, 3) := dk_180 0 9 (dk_at dksX2_writeLine_2 0 rfl rfl)
theorem dX2_writeLine_50 : decode cX2_writeLine 50 = .ok (.iconst 0, 1) := dk_3 (dk_at dksX2_writeLine_2 3 rfl rfl)
theorem dX2_writeLine_51 : decode cX2_writeLine 51 = .ok (.iaload, 1) := dk_46 (dk_at dksX2_writeLine_2 4 rfl rfl)
theorem dX2_writeLine_52 : decode cX2_writeLine 52 = .ok (.if_icmp .ge 72, 3) := dk_162 0 72 (dk_at dksX2_writeLine_2 5 rfl rfl)
theorem dX2_writeLine_55 : decode cX2_writeLine 55 = .ok (.aload_n 0, 1) := dk_42 (dk_at dksX2_writeLine_2 8 rfl rfl)
theorem dX2_writeLine_56 : decode cX2_writeLine 56 = .ok (.aload_n 0, 1) := dk_42 (dk_at dksX2_writeLine_2 9 rfl rfl)
theorem dX2_writeLine_57 : decode cX2_writeLine 57 = .ok (.iload_n 1, 1) := dk_27 (dk_at dksX2_writeLine_2 10 rfl rfl)
theorem dX2_writeLine_58 : decode cX2_writeLine 58 = .ok (.iconst 2, 1) := dk_5 (dk_at dksX2_writeLine_2 11 rfl rfl)
theorem dX2_writeLine_59 : decode cX2_writeLine 59 = .ok (.invokevirtual 163, 3) := dk_182 0 163 (dk_at dksX2_writeLine_2 12 rfl rfl)
theorem dX2_writeLine_62 : decode cX2_writeLine 62 = .ok (.iconst 1, 1) := dk_4 (dk_at dksX2_writeLine_2 15 rfl rfl)
theorem dX2_writeLine_63 : decode cX2_writeLine 63 = .ok (.if_icmp .ne 9, 3) := dk_160 0 9 (dk_at dksX2_writeLine_2 16 rfl rfl)
theorem dX2_writeLine_66 : decode cX2_writeLine 66 = .ok (.ldc_w 401, 3) := dk_19 1 145 (dk_at dksX2_writeLine_2 19 rfl rfl)
theorem dX2_writeLine_69 : decode cX2_writeLine 69 = .ok (.goto 6, 3) := dk_167 0 6 (dk_at dksX2_writeLine_3 0 rfl rfl)
theorem dX2_writeLine_72 : decode cX2_writeLine 72 = .ok (.ldc_w 403, 3) := dk_19 1 147 (dk_at dksX2_writeLine_3 3 rfl rfl)
theorem dX2_writeLine_75 : decode cX2_writeLine 75 = .ok (.invokevirtual 394, 3) := dk_182 1 138 (dk_at dksX2_writeLine_3 6 rfl rfl)
theorem dX2_writeLine_78 : decode cX2_writeLine 78 = .ok (.aload_n 0, 1) := dk_42 (dk_at dksX2_writeLine_3 9 rfl rfl)
theorem dX2_writeLine_79 : decode cX2_writeLine 79 = .ok (.aload_n 0, 1) := dk_42 (dk_at dksX2_writeLine_3 10 rfl rfl)
theorem dX2_writeLine_80 : decode cX2_writeLine 80 = .ok (.iload_n 1, 1) := dk_27 (dk_at dksX2_writeLine_3 11 rfl rfl)
theorem dX2_writeLine_81 : decode cX2_writeLine 81 = .ok (.iconst 0, 1) := dk_3 (dk_at dksX2_writeLine_3 12 rfl rfl)
theorem dX2_writeLine_82 : decode cX2_writeLine 82 = .ok (.invokevirtual 163, 3) := dk_182 0 163 (dk_at dksX2_writeLine_3 13 rfl rfl)
theorem dX2_writeLine_85 : decode cX2_writeLine 85 = .ok (.invokevirtual 398, 3) := dk_182 1 142 (dk_at dksX2_writeLine_3 16 rfl rfl)
theorem dX2_writeLine_88 : decode cX2_writeLine 88 = .ok (.aload_n 0, 1) := dk_42 (dk_at dksX2_writeLine_3 19 rfl rfl)
theorem dX2_writeLine_89 : decode cX2_writeLine 89 = .ok (.iload_n 1, 1) := dk_27 (dk_at dksX2_writeLine_3 20 rfl rfl)
theorem dX2_writeLine_90 : decode cX2_writeLine 90 = .ok (.iconst 1, 1) := dk_4 (dk_at dksX2_writeLine_3 21 rfl rfl)
theorem dX2_writeLine_91 : decode cX2_writeLine 91 = .ok (.invokevirtual 163, 3) := dk_182 0 163 (dk_at dksX2_writeLine_4 0 rfl rfl)
theorem dX2_writeLine_94 : decode cX2_writeLine 94 = .ok (.ifCond .ge 10, 3) := dk_156 0 10 (dk_at dksX2_writeLine_4 3 rfl rfl)
theorem dX2_writeLine_97 : decode cX2_writeLine 97 = .ok (.aload_n 0, 1) := dk_42 (dk_at dksX2_writeLine_4 6 rfl rfl)
theorem dX2_writeLine_98 : decode cX2_writeLine 98 = .ok (.ldc_w 405, 3) := dk_19 1 149 (dk_at dksX2_writeLine_4 7 rfl rfl)
theorem dX2_writeLine_101 : decode cX2_writeLine 101 = .ok (.invokevirtual 394, 3) := dk_182 1 138 (dk_at dksX2_writeLine_4 10 rfl rfl)
theorem dX2_writeLine_104 : decode cX2_writeLine 104 = .ok (.aload_n 0, 1) := dk_42 (dk_at dksX2_writeLine_4 13 rfl rfl)
theorem dX2_writeLine_105 : decode cX2_writeLine 105 = .ok (.aload_n 0, 1) := dk_42 (dk_at dksX2_writeLine_4 14 rfl rfl)
theorem dX2_writeLine_106 : decode cX2_writeLine 106 = .ok (.iload_n 1, 1) := dk_27 (dk_at dksX2_writeLine_4 15 rfl rfl)
theorem dX2_writeLine_107 : decode cX2_writeLine 107 = .ok (.iconst 1, 1) := dk_4 (dk_at dksX2_writeLine_4 16 rfl rfl)
theorem dX2_writeLine_108 : decode cX2_writeLine 108 = .ok (.invokevirtual 163, 3) := dk_182 0 163 (dk_at dksX2_writeLine_4 17 rfl rfl)
theorem dX2_writeLine_111 : decode cX2_writeLine 111 = .ok (.iconst 0, 1) := dk_3 (dk_at dksX2_writeLine_4 20 rfl rfl)
theorem dX2_writeLine_112 : decode cX2_writeLine 112 = .ok (.invokestatic 187, 3) := dk_184 0 187 (dk_at dksX2_writeLine_4 21 rfl rfl)
theorem dX2_writeLine_115 : decode cX2_writeLine 115 = .ok (.invokevirtual 398, 3) := dk_182 1 142 (dk_at dksX2_writeLine_5 0 rfl rfl)
theorem dX2_writeLine_118 : decode cX2_writeLine 118 = .ok (.iinc 1 1, 3) := dk_132 1 1 (dk_at dksX2_writeLine_5 3 rfl rfl)
theorem dX2_writeLine_121 : decode cX2_writeLine 121 = .ok (.goto (-76), 3) := dk_167 255 180 (dk_at dksX2_writeLine_5 6 rfl rfl)
theorem dX2_writeLine_124 : decode cX2_writeLine 124 = .ok (.aload_n 0, 1) := dk_42 (dk_at dksX2_writeLine_5 9 rfl rfl)
theorem dX2_writeLine_125 : decode cX2_writeLine 125 = .ok (.getfield 382, 3) := dk_180 1 126 (dk_at dksX2_writeLine_5 10 rfl rfl)
theorem dX2_writeLine_128 : decode cX2_writeLine 128 = .ok (.ireturn, 1) := dk_172 (dk_at dksX2_writeLine_5 13 rfl rfl)
abbrev cX2_writeFar : ByteArray := prog_10_method_135_code
def yX2_writeFar : MethodName := ⟨RX2, "writeFar", "(I)I"⟩
def dkwX2_writeFar_3 : List UInt8 := [180, 0, 41, 28, 46, 182, 1, 132, 132, 2, 1, 167, 255, 209, 42, 180, 1, 126, 172]
abbrev dktX2_writeFar_3 : List UInt8 := dkwX2_writeFar_3 ++ []
def dkwX2_writeFar_2 : List UInt8 := [16, 32, 182, 1, 129, 42, 42, 180, 0, 38, 28, 46, 182, 1, 132, 42, 16, 47, 182, 1, 129, 42, 42]
abbrev dktX2_writeFar_2 : List UInt8 := dkwX2_writeFar_2 ++ dktX2_writeFar_3
def dkwX2_writeFar_1 : List UInt8 := [154, 0, 9, 42, 16, 46, 182, 1, 129, 3, 61, 28, 42, 180, 1, 13, 162, 0, 45, 28, 158, 0, 9, 42]
abbrev dktX2_writeFar_1 : List UInt8 := dkwX2_writeFar_1 ++ dktX2_writeFar_2
def dkwX2_writeFar_0 : List UInt8 := [42, 27, 182, 0, 216, 154, 0, 5, 3, 172, 42, 27, 182, 1, 19, 42, 3, 181, 1, 126, 42, 180, 1, 13]
abbrev dktX2_writeFar_0 : List UInt8 := dkwX2_writeFar_0 ++ dktX2_writeFar_1
theorem dksX2_writeFar_0 : cX2_writeFar.data.toList.drop 0 = dktX2_writeFar_0 := by decide +kernel
theorem dksX2_writeFar_1 : cX2_writeFar.data.toList.drop 24 = dktX2_writeFar_1 := dk_seg dksX2_writeFar_0 24 rfl rfl
theorem dksX2_writeFar_2 : cX2_writeFar.data.toList.drop 48 = dktX2_writeFar_2 := dk_seg dksX2_writeFar_1 24 rfl rfl
theorem dksX2_writeFar_3 : cX2_writeFar.data.toList.drop 71 = dktX2_writeFar_3 := dk_seg dksX2_writeFar_2 23 rfl rfl
theorem dX2_writeFar_0 : decode cX2_writeFar 0 = .ok (.aload_n 0, 1) := dk_42 (dk_at dksX2_writeFar_0 0 rfl rfl)
theorem dX2_writeFar_1 : decode cX2_writeFar 1 = .ok (.iload_n 1, 1) := dk_27 (dk_at dksX2_writeFar_0 1 rfl rfl)
theorem dX2_writeFar_2 : decode cX2_writeFar 2 = .ok (.invokevirtual 216, 3) := dk_182 0 216 (dk_at dksX2_writeFar_0 2 rfl rfl)
theorem dX2_writeFar_5 : decode cX2_writeFar 5 = .ok (.ifCond .ne 5, 3) := dk_154 0 5 (dk_at dksX2_writeFar_0 5 rfl rfl)
theorem dX2_writeFar_8 : decode cX2_writeFar 8 = .ok (.iconst 0, 1) := dk_3 (dk_at dksX2_writeFar_0 8 rfl rfl)
theorem dX2_writeFar_9 : decode cX2_writeFar 9 = .ok (.ireturn, 1) := dk_172 (dk_at dksX2_writeFar_0 9 rfl rfl)
theorem dX2_writeFar_10 : decode cX2_writeFar 10 = .ok (.aload_n 0, 1) := dk_42 (dk_at dksX2_writeFar_0 10 rfl rfl)
theorem dX2_writeFar_11 : decode cX2_writeFar 11 = .ok (.iload_n 1, 1) := dk_27 (dk_at dksX2_writeFar_0 11 rfl rfl)
theorem dX2_writeFar_12 : decode cX2_writeFar 12 = .ok (.invokevirtual 275, 3) := dk_182 1 19 (dk_at dksX2_writeFar_0 12 rfl rfl)
theorem dX2_writeFar_15 : decode cX2_writeFar 15 = .ok (.aload_n 0, 1) := dk_42 (dk_at dksX2_writeFar_0 15 rfl rfl)
theorem dX2_writeFar_16 : decode cX2_writeFar 16 = .ok (.iconst 0, 1) := dk_3 (dk_at dksX2_writeFar_0 16 rfl rfl)
theorem dX2_writeFar_17 : decode cX2_writeFar 17 = .ok (.putfield 382, 3) := dk_181 1 126 (dk_at dksX2_writeFar_0 17 rfl rfl)
theorem dX2_writeFar_20 : decode cX2_writeFar 20 = .ok (.aload_n 0, 1) := dk_42 (dk_at dksX2_writeFar_0 20 rfl rfl)
theorem dX2_writeFar_21 : decode cX2_writeFar 21 = .ok (.getfield 269, 3) := dk_180 1 13 (dk_at dksX2_writeFar_0 21 rfl rfl)
theorem dX2_writeFar_24 : decode cX2_writeFar 24 = .ok (.ifCond .ne 9, 3) := dk_154 0 9 (dk_at dksX2_writeFar_1 0 rfl rfl)
theorem dX2_writeFar_27 : decode cX2_writeFar 27 = .ok (.aload_n 0, 1) := dk_42 (dk_at dksX2_writeFar_1 3 rfl rfl)
theorem dX2_writeFar_28 : decode cX2_writeFar 28 = .ok (.bipush 46, 2) := dk_16 46 (dk_at dksX2_writeFar_1 4 rfl rfl)
theorem dX2_writeFar_30 : decode cX2_writeFar 30 = .ok (.invokevirtual 385, 3) := dk_182 1 129 (dk_at dksX2_writeFar_1 6 rfl rfl)
theorem dX2_writeFar_33 : decode cX2_writeFar 33 = .ok (.iconst 0, 1) := dk_3 (dk_at dksX2_writeFar_1 9 rfl rfl)
theorem dX2_writeFar_34 : decode cX2_writeFar 34 = .ok (.istore_n 2, 1) := dk_61 (dk_at dksX2_writeFar_1 10 rfl rfl)
theorem dX2_writeFar_35 : decode cX2_writeFar 35 = .ok (.iload_n 2, 1) := dk_28 (dk_at dksX2_writeFar_1 11 rfl rfl)
theorem dX2_writeFar_36 : decode cX2_writeFar 36 = .ok (.aload_n 0, 1) := dk_42 (dk_at dksX2_writeFar_1 12 rfl rfl)
theorem dX2_writeFar_37 : decode cX2_writeFar 37 = .ok (.getfield 269, 3) := dk_180 1 13 (dk_at dksX2_writeFar_1 13 rfl rfl)
theorem dX2_writeFar_40 : decode cX2_writeFar 40 = .ok (.if_icmp .ge 45, 3) := dk_162 0 45 (dk_at dksX2_writeFar_1 16 rfl rfl)
theorem dX2_writeFar_43 : decode cX2_writeFar 43 = .ok (.iload_n 2, 1) := dk_28 (dk_at dksX2_writeFar_1 19 rfl rfl)
theorem dX2_writeFar_44 : decode cX2_writeFar 44 = .ok (.ifCond .le 9, 3) := dk_158 0 9 (dk_at dksX2_writeFar_1 20 rfl rfl)
theorem dX2_writeFar_47 : decode cX2_writeFar 47 = .ok (.aload_n 0, 1) := dk_42 (dk_at dksX2_writeFar_1 23 rfl rfl)
theorem dX2_writeFar_48 : decode cX2_writeFar 48 = .ok (.bipush 32, 2) := dk_16 32 (dk_at dksX2_writeFar_2 0 rfl rfl)
theorem dX2_writeFar_50 : decode cX2_writeFar 50 = .ok (.invokevirtual 385, 3) := dk_182 1 129 (dk_at dksX2_writeFar_2 2 rfl rfl)
theorem dX2_writeFar_53 : decode cX2_writeFar 53 = .ok (.aload_n 0, 1) := dk_42 (dk_at dksX2_writeFar_2 5 rfl rfl)
theorem dX2_writeFar_54 : decode cX2_writeFar 54 = .ok (.aload_n 0, 1) := dk_42 (dk_at dksX2_writeFar_2 6 rfl rfl)
theorem dX2_writeFar_55 : decode cX2_writeFar 55 = .ok (.getfield 38, 3) := dk_180 0 38 (dk_at dksX2_writeFar_2 7 rfl rfl)
theorem dX2_writeFar_58 : decode cX2_writeFar 58 = .ok (.iload_n 2, 1) := dk_28 (dk_at dksX2_writeFar_2 10 rfl rfl)
theorem dX2_writeFar_59 : decode cX2_writeFar 59 = .ok (.iaload, 1) := dk_46 (dk_at dksX2_writeFar_2 11 rfl rfl)
theorem dX2_writeFar_60 : decode cX2_writeFar 60 = .ok (.invokevirtual 388, 3) := dk_182 1 132 (dk_at dksX2_writeFar_2 12 rfl rfl)
theorem dX2_writeFar_63 : decode cX2_writeFar 63 = .ok (.aload_n 0, 1) := dk_42 (dk_at dksX2_writeFar_2 15 rfl rfl)
theorem dX2_writeFar_64 : decode cX2_writeFar 64 = .ok (.bipush 47, 2) := dk_16 47 (dk_at dksX2_writeFar_2 16 rfl rfl)
theorem dX2_writeFar_66 : decode cX2_writeFar 66 = .ok (.invokevirtual 385, 3) := dk_182 1 129 (dk_at dksX2_writeFar_2 18 rfl rfl)
theorem dX2_writeFar_69 : decode cX2_writeFar 69 = .ok (.aload_n 0, 1) := dk_42 (dk_at dksX2_writeFar_2 21 rfl rfl)
theorem dX2_writeFar_70 : decode cX2_writeFar 70 = .ok (.aload_n 0, 1) := dk_42 (dk_at dksX2_writeFar_2 22 rfl rfl)
theorem dX2_writeFar_71 : decode cX2_writeFar 71 = .ok (.getfield 41, 3) := dk_180 0 41 (dk_at dksX2_writeFar_3 0 rfl rfl)
theorem dX2_writeFar_74 : decode cX2_writeFar 74 = .ok (.iload_n 2, 1) := dk_28 (dk_at dksX2_writeFar_3 3 rfl rfl)
theorem dX2_writeFar_75 : decode cX2_writeFar 75 = .ok (.iaload, 1) := dk_46 (dk_at dksX2_writeFar_3 4 rfl rfl)
theorem dX2_writeFar_76 : decode cX2_writeFar 76 = .ok (.invokevirtual 388, 3) := dk_182 1 132 (dk_at dksX2_writeFar_3 5 rfl rfl)
theorem dX2_writeFar_79 : decode cX2_writeFar 79 = .ok (.iinc 2 1, 3) := dk_132 2 1 (dk_at dksX2_writeFar_3 8 rfl rfl)
theorem dX2_writeFar_82 : decode cX2_writeFar 82 = .ok (.goto (-47), 3) := dk_167 255 209 (dk_at dksX2_writeFar_3 11 rfl rfl)
theorem dX2_writeFar_85 : decode cX2_writeFar 85 = .ok (.aload_n 0, 1) := dk_42 (dk_at dksX2_writeFar_3 14 rfl rfl)
theorem dX2_writeFar_86 : decode cX2_writeFar 86 = .ok (.getfield 382, 3) := dk_180 1 126 (dk_at dksX2_writeFar_3 15 rfl rfl)
theorem dX2_writeFar_89 : decode cX2_writeFar 89 = .ok (.ireturn, 1) := dk_172 (dk_at dksX2_writeFar_3 18 rfl rfl)
abbrev cX2_textByte : ByteArray := prog_10_method_136_code
def yX2_textByte : MethodName := ⟨RX2, "textByte", "(I)I"⟩
def dkwX2_textByte_1 : List UInt8 := [27, 51, 167, 0, 4, 3, 172]
abbrev dktX2_textByte_1 : List UInt8 := dkwX2_textByte_1 ++ []
def dkwX2_textByte_0 : List UInt8 := [42, 27, 3, 42, 180, 1, 126, 4, 100, 184, 0, 77, 4, 4, 182, 0, 60, 153, 0, 12, 42, 180, 0, 54]
abbrev dktX2_textByte_0 : List UInt8 := dkwX2_textByte_0 ++ dktX2_textByte_1
theorem dksX2_textByte_0 : cX2_textByte.data.toList.drop 0 = dktX2_textByte_0 := by decide +kernel
theorem dksX2_textByte_1 : cX2_textByte.data.toList.drop 24 = dktX2_textByte_1 := dk_seg dksX2_textByte_0 24 rfl rfl
theorem dX2_textByte_0 : decode cX2_textByte 0 = .ok (.aload_n 0, 1) := dk_42 (dk_at dksX2_textByte_0 0 rfl rfl)
theorem dX2_textByte_1 : decode cX2_textByte 1 = .ok (.iload_n 1, 1) := dk_27 (dk_at dksX2_textByte_0 1 rfl rfl)
theorem dX2_textByte_2 : decode cX2_textByte 2 = .ok (.iconst 0, 1) := dk_3 (dk_at dksX2_textByte_0 2 rfl rfl)
theorem dX2_textByte_3 : decode cX2_textByte 3 = .ok (.aload_n 0, 1) := dk_42 (dk_at dksX2_textByte_0 3 rfl rfl)
theorem dX2_textByte_4 : decode cX2_textByte 4 = .ok (.getfield 382, 3) := dk_180 1 126 (dk_at dksX2_textByte_0 4 rfl rfl)
theorem dX2_textByte_7 : decode cX2_textByte 7 = .ok (.iconst 1, 1) := dk_4 (dk_at dksX2_textByte_0 7 rfl rfl)
theorem dX2_textByte_8 : decode cX2_textByte 8 = .ok (.isub, 1) := dk_100 (dk_at dksX2_textByte_0 8 rfl rfl)
theorem dX2_textByte_9 : decode cX2_textByte 9 = .ok (.invokestatic 77, 3) := dk_184 0 77 (dk_at dksX2_textByte_0 9 rfl rfl)
theorem dX2_textByte_12 : decode cX2_textByte 12 = .ok (.iconst 1, 1) := dk_4 (dk_at dksX2_textByte_0 12 rfl rfl)
theorem dX2_textByte_13 : decode cX2_textByte 13 = .ok (.iconst 1, 1) := dk_4 (dk_at dksX2_textByte_0 13 rfl rfl)
theorem dX2_textByte_14 : decode cX2_textByte 14 = .ok (.invokevirtual 60, 3) := dk_182 0 60 (dk_at dksX2_textByte_0 14 rfl rfl)
theorem dX2_textByte_17 : decode cX2_textByte 17 = .ok (.ifCond .eq 12, 3) := dk_153 0 12 (dk_at dksX2_textByte_0 17 rfl rfl)
theorem dX2_textByte_20 : decode cX2_textByte 20 = .ok (.aload_n 0, 1) := dk_42 (dk_at dksX2_textByte_0 20 rfl rfl)
theorem dX2_textByte_21 : decode cX2_textByte 21 = .ok (.getfield 54, 3) := dk_180 0 54 (dk_at dksX2_textByte_0 21 rfl rfl)
theorem dX2_textByte_24 : decode cX2_textByte 24 = .ok (.iload_n 1, 1) := dk_27 (dk_at dksX2_textByte_1 0 rfl rfl)
theorem dX2_textByte_25 : decode cX2_textByte 25 = .ok (.baload, 1) := dk_51 (dk_at dksX2_textByte_1 1 rfl rfl)
theorem dX2_textByte_26 : decode cX2_textByte 26 = .ok (.goto 4, 3) := dk_167 0 4 (dk_at dksX2_textByte_1 2 rfl rfl)
theorem dX2_textByte_29 : decode cX2_textByte 29 = .ok (.iconst 0, 1) := dk_3 (dk_at dksX2_textByte_1 5 rfl rfl)
theorem dX2_textByte_30 : decode cX2_textByte 30 = .ok (.ireturn, 1) := dk_172 (dk_at dksX2_textByte_1 6 rfl rfl)
abbrev cX2_isCharge : ByteArray := prog_10_method_138_code
def yX2_isCharge : MethodName := ⟨RX2, "isCharge", "(I)Z"⟩
def dkwX2_isCharge_0 : List UInt8 := [26, 153, 0, 18, 26, 16, 157, 16, 99, 184, 0, 77, 153, 0, 7, 4, 167, 0, 4, 3, 172]
abbrev dktX2_isCharge_0 : List UInt8 := dkwX2_isCharge_0 ++ []
theorem dksX2_isCharge_0 : cX2_isCharge.data.toList.drop 0 = dktX2_isCharge_0 := by decide +kernel
theorem dX2_isCharge_0 : decode cX2_isCharge 0 = .ok (.iload_n 0, 1) := dk_26 (dk_at dksX2_isCharge_0 0 rfl rfl)
theorem dX2_isCharge_1 : decode cX2_isCharge 1 = .ok (.ifCond .eq 18, 3) := dk_153 0 18 (dk_at dksX2_isCharge_0 1 rfl rfl)
theorem dX2_isCharge_4 : decode cX2_isCharge 4 = .ok (.iload_n 0, 1) := dk_26 (dk_at dksX2_isCharge_0 4 rfl rfl)
theorem dX2_isCharge_5 : decode cX2_isCharge 5 = .ok (.bipush (-99), 2) := dk_16 157 (dk_at dksX2_isCharge_0 5 rfl rfl)
theorem dX2_isCharge_7 : decode cX2_isCharge 7 = .ok (.bipush 99, 2) := dk_16 99 (dk_at dksX2_isCharge_0 7 rfl rfl)
theorem dX2_isCharge_9 : decode cX2_isCharge 9 = .ok (.invokestatic 77, 3) := dk_184 0 77 (dk_at dksX2_isCharge_0 9 rfl rfl)
theorem dX2_isCharge_12 : decode cX2_isCharge 12 = .ok (.ifCond .eq 7, 3) := dk_153 0 7 (dk_at dksX2_isCharge_0 12 rfl rfl)
theorem dX2_isCharge_15 : decode cX2_isCharge 15 = .ok (.iconst 1, 1) := dk_4 (dk_at dksX2_isCharge_0 15 rfl rfl)
theorem dX2_isCharge_16 : decode cX2_isCharge 16 = .ok (.goto 4, 3) := dk_167 0 4 (dk_at dksX2_isCharge_0 16 rfl rfl)
theorem dX2_isCharge_19 : decode cX2_isCharge 19 = .ok (.iconst 0, 1) := dk_3 (dk_at dksX2_isCharge_0 19 rfl rfl)
theorem dX2_isCharge_20 : decode cX2_isCharge 20 = .ok (.ireturn, 1) := dk_172 (dk_at dksX2_isCharge_0 20 rfl rfl)
abbrev cX2_remembers : ByteArray := prog_10_method_137_code
def yX2_remembers : MethodName := ⟨RX2, "remembers", "()V"⟩
def dkwX2_remembers_3 : List UInt8 := [180, 0, 160, 4, 96, 181, 0, 160, 177]
abbrev dktX2_remembers_3 : List UInt8 := dkwX2_remembers_3 ++ []
def dkwX2_remembers_2 : List UInt8 := [181, 0, 160, 42, 180, 0, 9, 3, 42, 180, 0, 16, 42, 180, 0, 160, 16, 103, 104, 184, 0, 149, 42, 89]
abbrev dktX2_remembers_2 : List UInt8 := dkwX2_remembers_2 ++ dktX2_remembers_3
def dkwX2_remembers_1 : List UInt8 := [180, 0, 16, 27, 16, 103, 96, 46, 79, 132, 1, 1, 167, 255, 231, 42, 89, 180, 0, 160, 4, 100]
abbrev dktX2_remembers_1 : List UInt8 := dkwX2_remembers_1 ++ dktX2_remembers_2
def dkwX2_remembers_0 : List UInt8 := [42, 180, 0, 160, 16, 8, 160, 0, 43, 3, 60, 27, 17, 2, 209, 162, 0, 24, 42, 180, 0, 16, 27, 42]
abbrev dktX2_remembers_0 : List UInt8 := dkwX2_remembers_0 ++ dktX2_remembers_1
theorem dksX2_remembers_0 : cX2_remembers.data.toList.drop 0 = dktX2_remembers_0 := by decide +kernel
theorem dksX2_remembers_1 : cX2_remembers.data.toList.drop 24 = dktX2_remembers_1 := dk_seg dksX2_remembers_0 24 rfl rfl
theorem dksX2_remembers_2 : cX2_remembers.data.toList.drop 46 = dktX2_remembers_2 := dk_seg dksX2_remembers_1 22 rfl rfl
theorem dksX2_remembers_3 : cX2_remembers.data.toList.drop 70 = dktX2_remembers_3 := dk_seg dksX2_remembers_2 24 rfl rfl
theorem dX2_remembers_0 : decode cX2_remembers 0 = .ok (.aload_n 0, 1) := dk_42 (dk_at dksX2_remembers_0 0 rfl rfl)
theorem dX2_remembers_1 : decode cX2_remembers 1 = .ok (.getfield 160, 3) := dk_180 0 160 (dk_at dksX2_remembers_0 1 rfl rfl)
theorem dX2_remembers_4 : decode cX2_remembers 4 = .ok (.bipush 8, 2) := dk_16 8 (dk_at dksX2_remembers_0 4 rfl rfl)
theorem dX2_remembers_6 : decode cX2_remembers 6 = .ok (.if_icmp .ne 43, 3) := dk_160 0 43 (dk_at dksX2_remembers_0 6 rfl rfl)
theorem dX2_remembers_9 : decode cX2_remembers 9 = .ok (.iconst 0, 1) := dk_3 (dk_at dksX2_remembers_0 9 rfl rfl)
theorem dX2_remembers_10 : decode cX2_remembers 10 = .ok (.istore_n 1, 1) := dk_60 (dk_at dksX2_remembers_0 10 rfl rfl)
theorem dX2_remembers_11 : decode cX2_remembers 11 = .ok (.iload_n 1, 1) := dk_27 (dk_at dksX2_remembers_0 11 rfl rfl)
theorem dX2_remembers_12 : decode cX2_remembers 12 = .ok (.sipush 721, 3) := dk_17 2 209 (dk_at dksX2_remembers_0 12 rfl rfl)
theorem dX2_remembers_15 : decode cX2_remembers 15 = .ok (.if_icmp .ge 24, 3) := dk_162 0 24 (dk_at dksX2_remembers_0 15 rfl rfl)
theorem dX2_remembers_18 : decode cX2_remembers 18 = .ok (.aload_n 0, 1) := dk_42 (dk_at dksX2_remembers_0 18 rfl rfl)
theorem dX2_remembers_19 : decode cX2_remembers 19 = .ok (.getfield 16, 3) := dk_180 0 16 (dk_at dksX2_remembers_0 19 rfl rfl)
theorem dX2_remembers_22 : decode cX2_remembers 22 = .ok (.iload_n 1, 1) := dk_27 (dk_at dksX2_remembers_0 22 rfl rfl)
theorem dX2_remembers_23 : decode cX2_remembers 23 = .ok (.aload_n 0, 1) := dk_42 (dk_at dksX2_remembers_0 23 rfl rfl)
theorem dX2_remembers_24 : decode cX2_remembers 24 = .ok (.getfield 16, 3) := dk_180 0 16 (dk_at dksX2_remembers_1 0 rfl rfl)
theorem dX2_remembers_27 : decode cX2_remembers 27 = .ok (.iload_n 1, 1) := dk_27 (dk_at dksX2_remembers_1 3 rfl rfl)
theorem dX2_remembers_28 : decode cX2_remembers 28 = .ok (.bipush 103, 2) := dk_16 103 (dk_at dksX2_remembers_1 4 rfl rfl)
theorem dX2_remembers_30 : decode cX2_remembers 30 = .ok (.iadd, 1) := dk_96 (dk_at dksX2_remembers_1 6 rfl rfl)
theorem dX2_remembers_31 : decode cX2_remembers 31 = .ok (.iaload, 1) := dk_46 (dk_at dksX2_remembers_1 7 rfl rfl)
theorem dX2_remembers_32 : decode cX2_remembers 32 = .ok (.iastore, 1) := dk_79 (dk_at dksX2_remembers_1 8 rfl rfl)
theorem dX2_remembers_33 : decode cX2_remembers 33 = .ok (.iinc 1 1, 3) := dk_132 1 1 (dk_at dksX2_remembers_1 9 rfl rfl)
theorem dX2_remembers_36 : decode cX2_remembers 36 = .ok (.goto (-25), 3) := dk_167 255 231 (dk_at dksX2_remembers_1 12 rfl rfl)
theorem dX2_remembers_39 : decode cX2_remembers 39 = .ok (.aload_n 0, 1) := dk_42 (dk_at dksX2_remembers_1 15 rfl rfl)
theorem dX2_remembers_40 : decode cX2_remembers 40 = .ok (.dup, 1) := dk_89 (dk_at dksX2_remembers_1 16 rfl rfl)
theorem dX2_remembers_41 : decode cX2_remembers 41 = .ok (.getfield 160, 3) := dk_180 0 160 (dk_at dksX2_remembers_1 17 rfl rfl)
theorem dX2_remembers_44 : decode cX2_remembers 44 = .ok (.iconst 1, 1) := dk_4 (dk_at dksX2_remembers_1 20 rfl rfl)
theorem dX2_remembers_45 : decode cX2_remembers 45 = .ok (.isub, 1) := dk_100 (dk_at dksX2_remembers_1 21 rfl rfl)
theorem dX2_remembers_46 : decode cX2_remembers 46 = .ok (.putfield 160, 3) := dk_181 0 160 (dk_at dksX2_remembers_2 0 rfl rfl)
theorem dX2_remembers_49 : decode cX2_remembers 49 = .ok (.aload_n 0, 1) := dk_42 (dk_at dksX2_remembers_2 3 rfl rfl)
theorem dX2_remembers_50 : decode cX2_remembers 50 = .ok (.getfield 9, 3) := dk_180 0 9 (dk_at dksX2_remembers_2 4 rfl rfl)
theorem dX2_remembers_53 : decode cX2_remembers 53 = .ok (.iconst 0, 1) := dk_3 (dk_at dksX2_remembers_2 7 rfl rfl)
theorem dX2_remembers_54 : decode cX2_remembers 54 = .ok (.aload_n 0, 1) := dk_42 (dk_at dksX2_remembers_2 8 rfl rfl)
theorem dX2_remembers_55 : decode cX2_remembers 55 = .ok (.getfield 16, 3) := dk_180 0 16 (dk_at dksX2_remembers_2 9 rfl rfl)
theorem dX2_remembers_58 : decode cX2_remembers 58 = .ok (.aload_n 0, 1) := dk_42 (dk_at dksX2_remembers_2 12 rfl rfl)
theorem dX2_remembers_59 : decode cX2_remembers 59 = .ok (.getfield 160, 3) := dk_180 0 160 (dk_at dksX2_remembers_2 13 rfl rfl)
theorem dX2_remembers_62 : decode cX2_remembers 62 = .ok (.bipush 103, 2) := dk_16 103 (dk_at dksX2_remembers_2 16 rfl rfl)
theorem dX2_remembers_64 : decode cX2_remembers 64 = .ok (.imul, 1) := dk_104 (dk_at dksX2_remembers_2 18 rfl rfl)
theorem dX2_remembers_65 : decode cX2_remembers 65 = .ok (.invokestatic 149, 3) := dk_184 0 149 (dk_at dksX2_remembers_2 19 rfl rfl)
theorem dX2_remembers_68 : decode cX2_remembers 68 = .ok (.aload_n 0, 1) := dk_42 (dk_at dksX2_remembers_2 22 rfl rfl)
theorem dX2_remembers_69 : decode cX2_remembers 69 = .ok (.dup, 1) := dk_89 (dk_at dksX2_remembers_2 23 rfl rfl)
theorem dX2_remembers_70 : decode cX2_remembers 70 = .ok (.getfield 160, 3) := dk_180 0 160 (dk_at dksX2_remembers_3 0 rfl rfl)
theorem dX2_remembers_73 : decode cX2_remembers 73 = .ok (.iconst 1, 1) := dk_4 (dk_at dksX2_remembers_3 3 rfl rfl)
theorem dX2_remembers_74 : decode cX2_remembers 74 = .ok (.iadd, 1) := dk_96 (dk_at dksX2_remembers_3 4 rfl rfl)
theorem dX2_remembers_75 : decode cX2_remembers 75 = .ok (.putfield 160, 3) := dk_181 0 160 (dk_at dksX2_remembers_3 5 rfl rfl)
theorem dX2_remembers_78 : decode cX2_remembers 78 = .ok (.return_, 1) := dk_177 (dk_at dksX2_remembers_3 8 rfl rfl)
