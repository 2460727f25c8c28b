set_option maxRecDepth 100000
abbrev cX11_isLaidOf : ByteArray := prog_26_method_96_code
def yX11_isLaidOf : MethodName := ⟨RX11, "isLaidOf", "(I)Z"⟩
def dkwX11_isLaidOf_2 : List UInt8 := [46, 4, 96, 79, 42, 28, 182, 1, 177, 172]
abbrev dktX11_isLaidOf_2 : List UInt8 := dkwX11_isLaidOf_2 ++ []
def dkwX11_isLaidOf_1 : List UInt8 := [42, 180, 0, 111, 29, 4, 96, 3, 79, 42, 180, 0, 111, 29, 5, 96, 27, 79, 42, 180, 0, 111, 4, 92]
abbrev dktX11_isLaidOf_1 : List UInt8 := dkwX11_isLaidOf_1 ++ dktX11_isLaidOf_2
def dkwX11_isLaidOf_0 : List UInt8 := [42, 180, 0, 111, 4, 46, 61, 16, 16, 7, 28, 16, 31, 126, 104, 96, 62, 42, 180, 0, 111, 29, 3, 79]
abbrev dktX11_isLaidOf_0 : List UInt8 := dkwX11_isLaidOf_0 ++ dktX11_isLaidOf_1
theorem dksX11_isLaidOf_0 : cX11_isLaidOf.data.toList.drop 0 = dktX11_isLaidOf_0 := by decide +kernel
theorem dksX11_isLaidOf_1 : cX11_isLaidOf.data.toList.drop 24 = dktX11_isLaidOf_1 := dk_seg dksX11_isLaidOf_0 24 rfl rfl
theorem dksX11_isLaidOf_2 : cX11_isLaidOf.data.toList.drop 48 = dktX11_isLaidOf_2 := dk_seg dksX11_isLaidOf_1 24 rfl rfl
theorem dX11_isLaidOf_0 : decode cX11_isLaidOf 0 = .ok (.aload_n 0, 1) := dk_42 (dk_at dksX11_isLaidOf_0 0 rfl rfl)
theorem dX11_isLaidOf_1 : decode cX11_isLaidOf 1 = .ok (.getfield 111, 3) := dk_180 0 111 (dk_at dksX11_isLaidOf_0 1 rfl rfl)
theorem dX11_isLaidOf_4 : decode cX11_isLaidOf 4 = .ok (.iconst 1, 1) := dk_4 (dk_at dksX11_isLaidOf_0 4 rfl rfl)
theorem dX11_isLaidOf_5 : decode cX11_isLaidOf 5 = .ok (.iaload, 1) := dk_46 (dk_at dksX11_isLaidOf_0 5 rfl rfl)
theorem dX11_isLaidOf_6 : decode cX11_isLaidOf 6 = .ok (.istore_n 2, 1) := dk_61 (dk_at dksX11_isLaidOf_0 6 rfl rfl)
theorem dX11_isLaidOf_7 : decode cX11_isLaidOf 7 = .ok (.bipush 16, 2) := dk_16 16 (dk_at dksX11_isLaidOf_0 7 rfl rfl)
theorem dX11_isLaidOf_9 : decode cX11_isLaidOf 9 = .ok (.iconst 4, 1) := dk_7 (dk_at dksX11_isLaidOf_0 9 rfl rfl)
theorem dX11_isLaidOf_10 : decode cX11_isLaidOf 10 = .ok (.iload_n 2, 1) := dk_28 (dk_at dksX11_isLaidOf_0 10 rfl rfl)
theorem dX11_isLaidOf_11 : decode cX11_isLaidOf 11 = .ok (.bipush 31, 2) := dk_16 31 (dk_at dksX11_isLaidOf_0 11 rfl rfl)
theorem dX11_isLaidOf_13 : decode cX11_isLaidOf 13 = .ok (.iand, 1) := dk_126 (dk_at dksX11_isLaidOf_0 13 rfl rfl)
theorem dX11_isLaidOf_14 : decode cX11_isLaidOf 14 = .ok (.imul, 1) := dk_104 (dk_at dksX11_isLaidOf_0 14 rfl rfl)
theorem dX11_isLaidOf_15 : decode cX11_isLaidOf 15 = .ok (.iadd, 1) := dk_96 (dk_at dksX11_isLaidOf_0 15 rfl rfl)
theorem dX11_isLaidOf_16 : decode cX11_isLaidOf 16 = .ok (.istore_n 3, 1) := dk_62 (dk_at dksX11_isLaidOf_0 16 rfl rfl)
theorem dX11_isLaidOf_17 : decode cX11_isLaidOf 17 = .ok (.aload_n 0, 1) := dk_42 (dk_at dksX11_isLaidOf_0 17 rfl rfl)
theorem dX11_isLaidOf_18 : decode cX11_isLaidOf 18 = .ok (.getfield 111, 3) := dk_180 0 111 (dk_at dksX11_isLaidOf_0 18 rfl rfl)
theorem dX11_isLaidOf_21 : decode cX11_isLaidOf 21 = .ok (.iload_n 3, 1) := dk_29 (dk_at dksX11_isLaidOf_0 21 rfl rfl)
theorem dX11_isLaidOf_22 : decode cX11_isLaidOf 22 = .ok (.iconst 0, 1) := dk_3 (dk_at dksX11_isLaidOf_0 22 rfl rfl)
theorem dX11_isLaidOf_23 : decode cX11_isLaidOf 23 = .ok (.iastore, 1) := dk_79 (dk_at dksX11_isLaidOf_0 23 rfl rfl)
theorem dX11_isLaidOf_24 : decode cX11_isLaidOf 24 = .ok (.aload_n 0, 1) := dk_42 (dk_at dksX11_isLaidOf_1 0 rfl rfl)
theorem dX11_isLaidOf_25 : decode cX11_isLaidOf 25 = .ok (.getfield 111, 3) := dk_180 0 111 (dk_at dksX11_isLaidOf_1 1 rfl rfl)
theorem dX11_isLaidOf_28 : decode cX11_isLaidOf 28 = .ok (.iload_n 3, 1) := dk_29 (dk_at dksX11_isLaidOf_1 4 rfl rfl)
theorem dX11_isLaidOf_29 : decode cX11_isLaidOf 29 = .ok (.iconst 1, 1) := dk_4 (dk_at dksX11_isLaidOf_1 5 rfl rfl)
theorem dX11_isLaidOf_30 : decode cX11_isLaidOf 30 = .ok (.iadd, 1) := dk_96 (dk_at dksX11_isLaidOf_1 6 rfl rfl)
theorem dX11_isLaidOf_31 : decode cX11_isLaidOf 31 = .ok (.iconst 0, 1) := dk_3 (dk_at dksX11_isLaidOf_1 7 rfl rfl)
theorem dX11_isLaidOf_32 : decode cX11_isLaidOf 32 = .ok (.iastore, 1) := dk_79 (dk_at dksX11_isLaidOf_1 8 rfl rfl)
theorem dX11_isLaidOf_33 : decode cX11_isLaidOf 33 = .ok (.aload_n 0, 1) := dk_42 (dk_at dksX11_isLaidOf_1 9 rfl rfl)
theorem dX11_isLaidOf_34 : decode cX11_isLaidOf 34 = .ok (.getfield 111, 3) := dk_180 0 111 (dk_at dksX11_isLaidOf_1 10 rfl rfl)
theorem dX11_isLaidOf_37 : decode cX11_isLaidOf 37 = .ok (.iload_n 3, 1) := dk_29 (dk_at dksX11_isLaidOf_1 13 rfl rfl)
theorem dX11_isLaidOf_38 : decode cX11_isLaidOf 38 = .ok (.iconst 2, 1) := dk_5 (dk_at dksX11_isLaidOf_1 14 rfl rfl)
theorem dX11_isLaidOf_39 : decode cX11_isLaidOf 39 = .ok (.iadd, 1) := dk_96 (dk_at dksX11_isLaidOf_1 15 rfl rfl)
theorem dX11_isLaidOf_40 : decode cX11_isLaidOf 40 = .ok (.iload_n 1, 1) := dk_27 (dk_at dksX11_isLaidOf_1 16 rfl rfl)
theorem dX11_isLaidOf_41 : decode cX11_isLaidOf 41 = .ok (.iastore, 1) := dk_79 (dk_at dksX11_isLaidOf_1 17 rfl rfl)
theorem dX11_isLaidOf_42 : decode cX11_isLaidOf 42 = .ok (.aload_n 0, 1) := dk_42 (dk_at dksX11_isLaidOf_1 18 rfl rfl)
theorem dX11_isLaidOf_43 : decode cX11_isLaidOf 43 = .ok (.getfield 111, 3) := dk_180 0 111 (dk_at dksX11_isLaidOf_1 19 rfl rfl)
theorem dX11_isLaidOf_46 : decode cX11_isLaidOf 46 = .ok (.iconst 1, 1) := dk_4 (dk_at dksX11_isLaidOf_1 22 rfl rfl)
theorem dX11_isLaidOf_47 : decode cX11_isLaidOf 47 = .ok (.dup2, 1) := dk_92 (dk_at dksX11_isLaidOf_1 23 rfl rfl)
theorem dX11_isLaidOf_48 : decode cX11_isLaidOf 48 = .ok (.iaload, 1) := dk_46 (dk_at dksX11_isLaidOf_2 0 rfl rfl)
theorem dX11_isLaidOf_49 : decode cX11_isLaidOf 49 = .ok (.iconst 1, 1) := dk_4 (dk_at dksX11_isLaidOf_2 1 rfl rfl)
theorem dX11_isLaidOf_50 : decode cX11_isLaidOf 50 = .ok (.iadd, 1) := dk_96 (dk_at dksX11_isLaidOf_2 2 rfl rfl)
theorem dX11_isLaidOf_51 : decode cX11_isLaidOf 51 = .ok (.iastore, 1) := dk_79 (dk_at dksX11_isLaidOf_2 3 rfl rfl)
theorem dX11_isLaidOf_52 : decode cX11_isLaidOf 52 = .ok (.aload_n 0, 1) := dk_42 (dk_at dksX11_isLaidOf_2 4 rfl rfl)
theorem dX11_isLaidOf_53 : decode cX11_isLaidOf 53 = .ok (.iload_n 2, 1) := dk_28 (dk_at dksX11_isLaidOf_2 5 rfl rfl)
theorem dX11_isLaidOf_54 : decode cX11_isLaidOf 54 = .ok (.invokevirtual 433, 3) := dk_182 1 177 (dk_at dksX11_isLaidOf_2 6 rfl rfl)
theorem dX11_isLaidOf_57 : decode cX11_isLaidOf 57 = .ok (.ireturn, 1) := dk_172 (dk_at dksX11_isLaidOf_2 9 rfl rfl)
abbrev cX11_recovers : ByteArray := prog_26_method_98_code
def yX11_recovers : MethodName := ⟨RX11, "recovers", "(II)I"⟩
def dkwX11_recovers_4 : List UInt8 := [182, 2, 104, 62, 42, 182, 2, 85, 29, 172]
abbrev dktX11_recovers_4 : List UInt8 := dkwX11_recovers_4 ++ []
def dkwX11_recovers_3 : List UInt8 := [167, 0, 25, 28, 7, 162, 0, 16, 42, 180, 0, 111, 8, 28, 96, 5, 100, 46, 167, 0, 7, 42]
abbrev dktX11_recovers_3 : List UInt8 := dkwX11_recovers_3 ++ dktX11_recovers_4
def dkwX11_recovers_2 : List UInt8 := [154, 0, 12, 42, 180, 0, 111, 4, 46, 167, 0, 40, 28, 4, 160, 0, 13, 42, 180, 0, 111, 16, 10, 46]
abbrev dktX11_recovers_2 : List UInt8 := dkwX11_recovers_2 ++ dktX11_recovers_3
def dkwX11_recovers_1 : List UInt8 := [133, 9, 20, 2, 35, 184, 1, 19, 154, 0, 5, 2, 172, 42, 182, 2, 79, 42, 27, 182, 2, 101, 28]
abbrev dktX11_recovers_1 : List UInt8 := dkwX11_recovers_1 ++ dktX11_recovers_2
def dkwX11_recovers_0 : List UInt8 := [42, 180, 1, 84, 153, 0, 31, 27, 133, 9, 42, 180, 0, 111, 7, 46, 133, 184, 1, 19, 153, 0, 15, 28]
abbrev dktX11_recovers_0 : List UInt8 := dkwX11_recovers_0 ++ dktX11_recovers_1
theorem dksX11_recovers_0 : cX11_recovers.data.toList.drop 0 = dktX11_recovers_0 := by decide +kernel
theorem dksX11_recovers_1 : cX11_recovers.data.toList.drop 24 = dktX11_recovers_1 := dk_seg dksX11_recovers_0 24 rfl rfl
theorem dksX11_recovers_2 : cX11_recovers.data.toList.drop 47 = dktX11_recovers_2 := dk_seg dksX11_recovers_1 23 rfl rfl
theorem dksX11_recovers_3 : cX11_recovers.data.toList.drop 71 = dktX11_recovers_3 := dk_seg dksX11_recovers_2 24 rfl rfl
theorem dksX11_recovers_4 : cX11_recovers.data.toList.drop 93 = dktX11_recovers_4 := dk_seg dksX11_recovers_3 22 rfl rfl
theorem dX11_recovers_0 : decode cX11_recovers 0 = .ok (.aload_n 0, 1) := dk_42 (dk_at dksX11_recovers_0 0 rfl rfl)
theorem dX11_recovers_1 : decode cX11_recovers 1 = .ok (.getfield 340, 3) := dk_180 1 84 (dk_at dksX11_recovers_0 1 rfl rfl)
theorem dX11_recovers_4 : decode cX11_recovers 4 = .ok (.ifCond .eq 31, 3) := dk_153 0 31 (dk_at dksX11_recovers_0 4 rfl rfl)
theorem dX11_recovers_7 : decode cX11_recovers 7 = .ok (.iload_n 1, 1) := dk_27 (dk_at dksX11_recovers_0 7 rfl rfl)
theorem dX11_recovers_8 : decode cX11_recovers 8 = .ok (.i2l, 1) := dk_133 (dk_at dksX11_recovers_0 8 rfl rfl)
theorem dX11_recovers_9 : decode cX11_recovers 9 = .ok (.lconst 0, 1) := dk_9 (dk_at dksX11_recovers_0 9 rfl rfl)
theorem dX11_recovers_10 : decode cX11_recovers 10 = .ok (.aload_n 0, 1) := dk_42 (dk_at dksX11_recovers_0 10 rfl rfl)
theorem dX11_recovers_11 : decode cX11_recovers 11 = .ok (.getfield 111, 3) := dk_180 0 111 (dk_at dksX11_recovers_0 11 rfl rfl)
theorem dX11_recovers_14 : decode cX11_recovers 14 = .ok (.iconst 4, 1) := dk_7 (dk_at dksX11_recovers_0 14 rfl rfl)
theorem dX11_recovers_15 : decode cX11_recovers 15 = .ok (.iaload, 1) := dk_46 (dk_at dksX11_recovers_0 15 rfl rfl)
theorem dX11_recovers_16 : decode cX11_recovers 16 = .ok (.i2l, 1) := dk_133 (dk_at dksX11_recovers_0 16 rfl rfl)
theorem dX11_recovers_17 : decode cX11_recovers 17 = .ok (.invokestatic 275, 3) := dk_184 1 19 (dk_at dksX11_recovers_0 17 rfl rfl)
theorem dX11_recovers_20 : decode cX11_recovers 20 = .ok (.ifCond .eq 15, 3) := dk_153 0 15 (dk_at dksX11_recovers_0 20 rfl rfl)
theorem dX11_recovers_23 : decode cX11_recovers 23 = .ok (.iload_n 2, 1) := dk_28 (dk_at dksX11_recovers_0 23 rfl rfl)
theorem dX11_recovers_24 : decode cX11_recovers 24 = .ok (.i2l, 1) := dk_133 (dk_at dksX11_recovers_1 0 rfl rfl)
theorem dX11_recovers_25 : decode cX11_recovers 25 = .ok (.lconst 0, 1) := dk_9 (dk_at dksX11_recovers_1 1 rfl rfl)
theorem dX11_recovers_26 : decode cX11_recovers 26 = .ok (.ldc2_w 547, 3) := dk_20 2 35 (dk_at dksX11_recovers_1 2 rfl rfl)
theorem dX11_recovers_29 : decode cX11_recovers 29 = .ok (.invokestatic 275, 3) := dk_184 1 19 (dk_at dksX11_recovers_1 5 rfl rfl)
theorem dX11_recovers_32 : decode cX11_recovers 32 = .ok (.ifCond .ne 5, 3) := dk_154 0 5 (dk_at dksX11_recovers_1 8 rfl rfl)
theorem dX11_recovers_35 : decode cX11_recovers 35 = .ok (.iconst (-1), 1) := dk_2 (dk_at dksX11_recovers_1 11 rfl rfl)
theorem dX11_recovers_36 : decode cX11_recovers 36 = .ok (.ireturn, 1) := dk_172 (dk_at dksX11_recovers_1 12 rfl rfl)
theorem dX11_recovers_37 : decode cX11_recovers 37 = .ok (.aload_n 0, 1) := dk_42 (dk_at dksX11_recovers_1 13 rfl rfl)
theorem dX11_recovers_38 : decode cX11_recovers 38 = .ok (.invokevirtual 591, 3) := dk_182 2 79 (dk_at dksX11_recovers_1 14 rfl rfl)
theorem dX11_recovers_41 : decode cX11_recovers 41 = .ok (.aload_n 0, 1) := dk_42 (dk_at dksX11_recovers_1 17 rfl rfl)
theorem dX11_recovers_42 : decode cX11_recovers 42 = .ok (.iload_n 1, 1) := dk_27 (dk_at dksX11_recovers_1 18 rfl rfl)
theorem dX11_recovers_43 : decode cX11_recovers 43 = .ok (.invokevirtual 613, 3) := dk_182 2 101 (dk_at dksX11_recovers_1 19 rfl rfl)
theorem dX11_recovers_46 : decode cX11_recovers 46 = .ok (.iload_n 2, 1) := dk_28 (dk_at dksX11_recovers_1 22 rfl rfl)
theorem dX11_recovers_47 : decode cX11_recovers 47 = .ok (.ifCond .ne 12, 3) := dk_154 0 12 (dk_at dksX11_recovers_2 0 rfl rfl)
theorem dX11_recovers_50 : decode cX11_recovers 50 = .ok (.aload_n 0, 1) := dk_42 (dk_at dksX11_recovers_2 3 rfl rfl)
theorem dX11_recovers_51 : decode cX11_recovers 51 = .ok (.getfield 111, 3) := dk_180 0 111 (dk_at dksX11_recovers_2 4 rfl rfl)
theorem dX11_recovers_54 : decode cX11_recovers 54 = .ok (.iconst 1, 1) := dk_4 (dk_at dksX11_recovers_2 7 rfl rfl)
theorem dX11_recovers_55 : decode cX11_recovers 55 = .ok (.iaload, 1) := dk_46 (dk_at dksX11_recovers_2 8 rfl rfl)
theorem dX11_recovers_56 : decode cX11_recovers 56 = .ok (.goto 40, 3) := dk_167 0 40 (dk_at dksX11_recovers_2 9 rfl rfl)
theorem dX11_recovers_59 : decode cX11_recovers 59 = .ok (.iload_n 2, 1) := dk_28 (dk_at dksX11_recovers_2 12 rfl rfl)
theorem dX11_recovers_60 : decode cX11_recovers 60 = .ok (.iconst 1, 1) := dk_4 (dk_at dksX11_recovers_2 13 rfl rfl)
theorem dX11_recovers_61 : decode cX11_recovers 61 = .ok (.if_icmp .ne 13, 3) := dk_160 0 13 (dk_at dksX11_recovers_2 14 rfl rfl)
theorem dX11_recovers_64 : decode cX11_recovers 64 = .ok (.aload_n 0, 1) := dk_42 (dk_at dksX11_recovers_2 17 rfl rfl)
theorem dX11_recovers_65 : decode cX11_recovers 65 = .ok (.getfield 111, 3) := dk_180 0 111 (dk_at dksX11_recovers_2 18 rfl rfl)
theorem dX11_recovers_68 : decode cX11_recovers 68 = .ok (.bipush 10, 2) := dk_16 10 (dk_at dksX11_recovers_2 21 rfl rfl)
theorem dX11_recovers_70 : decode cX11_recovers 70 = .ok (.iaload, 1) := dk_46 (dk_at dksX11_recovers_2 23 rfl rfl)
theorem dX11_recovers_71 : decode cX11_recovers 71 = .ok (.goto 25, 3) := dk_167 0 25 (dk_at dksX11_recovers_3 0 rfl rfl)
theorem dX11_recovers_74 : decode cX11_recovers 74 = .ok (.iload_n 2, 1) := dk_28 (dk_at dksX11_recovers_3 3 rfl rfl)
theorem dX11_recovers_75 : decode cX11_recovers 75 = .ok (.iconst 4, 1) := dk_7 (dk_at dksX11_recovers_3 4 rfl rfl)
theorem dX11_recovers_76 : decode cX11_recovers 76 = .ok (.if_icmp .ge 16, 3) := dk_162 0 16 (dk_at dksX11_recovers_3 5 rfl rfl)
theorem dX11_recovers_79 : decode cX11_recovers 79 = .ok (.aload_n 0, 1) := dk_42 (dk_at dksX11_recovers_3 8 rfl rfl)
theorem dX11_recovers_80 : decode cX11_recovers 80 = .ok (.getfield 111, 3) := dk_180 0 111 (dk_at dksX11_recovers_3 9 rfl rfl)
theorem dX11_recovers_83 : decode cX11_recovers 83 = .ok (.iconst 5, 1) := dk_8 (dk_at dksX11_recovers_3 12 rfl rfl)
theorem dX11_recovers_84 : decode cX11_recovers 84 = .ok (.iload_n 2, 1) := dk_28 (dk_at dksX11_recovers_3 13 rfl rfl)
theorem dX11_recovers_85 : decode cX11_recovers 85 = .ok (.iadd, 1) := dk_96 (dk_at dksX11_recovers_3 14 rfl rfl)
theorem dX11_recovers_86 : decode cX11_recovers 86 = .ok (.iconst 2, 1) := dk_5 (dk_at dksX11_recovers_3 15 rfl rfl)
theorem dX11_recovers_87 : decode cX11_recovers 87 = .ok (.isub, 1) := dk_100 (dk_at dksX11_recovers_3 16 rfl rfl)
theorem dX11_recovers_88 : decode cX11_recovers 88 = .ok (.iaload, 1) := dk_46 (dk_at dksX11_recovers_3 17 rfl rfl)
theorem dX11_recovers_89 : decode cX11_recovers 89 = .ok (.goto 7, 3) := dk_167 0 7 (dk_at dksX11_recovers_3 18 rfl rfl)
theorem dX11_recovers_92 : decode cX11_recovers 92 = .ok (.aload_n 0, 1) := dk_42 (dk_at dksX11_recovers_3 21 rfl rfl)
theorem dX11_recovers_93 : decode cX11_recovers 93 = .ok (.invokevirtual 616, 3) := dk_182 2 104 (dk_at dksX11_recovers_4 0 rfl rfl)
theorem dX11_recovers_96 : decode cX11_recovers 96 = .ok (.istore_n 3, 1) := dk_62 (dk_at dksX11_recovers_4 3 rfl rfl)
theorem dX11_recovers_97 : decode cX11_recovers 97 = .ok (.aload_n 0, 1) := dk_42 (dk_at dksX11_recovers_4 4 rfl rfl)
theorem dX11_recovers_98 : decode cX11_recovers 98 = .ok (.invokevirtual 597, 3) := dk_182 2 85 (dk_at dksX11_recovers_4 5 rfl rfl)
theorem dX11_recovers_101 : decode cX11_recovers 101 = .ok (.iload_n 3, 1) := dk_29 (dk_at dksX11_recovers_4 8 rfl rfl)
theorem dX11_recovers_102 : decode cX11_recovers 102 = .ok (.ireturn, 1) := dk_172 (dk_at dksX11_recovers_4 9 rfl rfl)
abbrev cX11_crashes : ByteArray := prog_26_method_78_code
def yX11_crashes : MethodName := ⟨RX11, "crashes", "(I)V"⟩
def dkwX11_crashes_0 : List UInt8 := [42, 27, 182, 1, 220, 42, 182, 2, 52, 177]
abbrev dktX11_crashes_0 : List UInt8 := dkwX11_crashes_0 ++ []
theorem dksX11_crashes_0 : cX11_crashes.data.toList.drop 0 = dktX11_crashes_0 := by decide +kernel
theorem dX11_crashes_0 : decode cX11_crashes 0 = .ok (.aload_n 0, 1) := dk_42 (dk_at dksX11_crashes_0 0 rfl rfl)
theorem dX11_crashes_1 : decode cX11_crashes 1 = .ok (.iload_n 1, 1) := dk_27 (dk_at dksX11_crashes_0 1 rfl rfl)
theorem dX11_crashes_2 : decode cX11_crashes 2 = .ok (.invokevirtual 476, 3) := dk_182 1 220 (dk_at dksX11_crashes_0 2 rfl rfl)
theorem dX11_crashes_5 : decode cX11_crashes 5 = .ok (.aload_n 0, 1) := dk_42 (dk_at dksX11_crashes_0 5 rfl rfl)
theorem dX11_crashes_6 : decode cX11_crashes 6 = .ok (.invokevirtual 564, 3) := dk_182 2 52 (dk_at dksX11_crashes_0 6 rfl rfl)
theorem dX11_crashes_9 : decode cX11_crashes 9 = .ok (.return_, 1) := dk_177 (dk_at dksX11_crashes_0 9 rfl rfl)
abbrev cX11_recovering : ByteArray := prog_26_method_76_code
def yX11_recovering : MethodName := ⟨RX11, "recovering", "()V"⟩
def dkwX11_recovering_11 : List UInt8 := [177]
abbrev dktX11_recovering_11 : List UInt8 := dkwX11_recovering_11 ++ []
def dkwX11_recovering_10 : List UInt8 := [182, 2, 49, 87, 42, 180, 0, 111, 4, 42, 180, 1, 254, 79, 42, 180, 0, 111, 5, 42, 180, 1, 254, 79]
abbrev dktX11_recovering_10 : List UInt8 := dkwX11_recovering_10 ++ dktX11_recovering_11
def dkwX11_recovering_9 : List UInt8 := [182, 2, 46, 153, 0, 14, 42, 180, 0, 111, 16, 10, 4, 79, 167, 0, 13, 42, 27, 42, 180, 2, 4]
abbrev dktX11_recovering_9 : List UInt8 := dkwX11_recovering_9 ++ dktX11_recovering_10
def dkwX11_recovering_8 : List UInt8 := [180, 0, 111, 16, 6, 42, 180, 2, 4, 79, 42, 180, 0, 111, 16, 7, 42, 27, 182, 1, 241, 79, 42, 27]
abbrev dktX11_recovering_8 : List UInt8 := dkwX11_recovering_8 ++ dktX11_recovering_9
def dkwX11_recovering_7 : List UInt8 := [180, 0, 111, 16, 9, 46, 162, 0, 8, 42, 182, 2, 43, 177, 42, 180, 0, 111, 8, 27, 79, 42]
abbrev dktX11_recovering_7 : List UInt8 := dkwX11_recovering_7 ++ dktX11_recovering_8
def dkwX11_recovering_6 : List UInt8 := [159, 0, 19, 28, 60, 42, 27, 182, 2, 26, 42, 27, 182, 2, 40, 61, 167, 255, 238, 42, 180, 1, 254, 42]
abbrev dktX11_recovering_6 : List UInt8 := dkwX11_recovering_6 ++ dktX11_recovering_7
def dkwX11_recovering_5 : List UInt8 := [160, 0, 7, 2, 167, 0, 8, 42, 27, 182, 2, 29, 181, 1, 254, 42, 4, 181, 1, 251, 27, 61, 28, 2]
abbrev dktX11_recovering_5 : List UInt8 := dkwX11_recovering_5 ++ dktX11_recovering_6
def dkwX11_recovering_4 : List UInt8 := [180, 0, 111, 16, 12, 3, 79, 42, 182, 2, 37, 60, 42, 180, 0, 111, 16, 10, 3, 79, 42, 27, 2]
abbrev dktX11_recovering_4 : List UInt8 := dkwX11_recovering_4 ++ dktX11_recovering_5
def dkwX11_recovering_3 : List UInt8 := [17, 0, 184, 27, 96, 2, 79, 132, 1, 1, 167, 255, 236, 42, 180, 0, 111, 16, 11, 3, 79, 42]
abbrev dktX11_recovering_3 : List UInt8 := dkwX11_recovering_3 ++ dktX11_recovering_4
def dkwX11_recovering_2 : List UInt8 := [27, 96, 2, 79, 132, 1, 1, 167, 255, 237, 3, 60, 27, 16, 8, 162, 0, 20, 42, 180, 0, 111]
abbrev dktX11_recovering_2 : List UInt8 := dkwX11_recovering_2 ++ dktX11_recovering_3
def dkwX11_recovering_1 : List UInt8 := [27, 96, 46, 79, 132, 1, 1, 167, 255, 227, 3, 60, 27, 7, 162, 0, 20, 42, 180, 0, 111, 17, 0, 192]
abbrev dktX11_recovering_1 : List UInt8 := dkwX11_recovering_1 ++ dktX11_recovering_2
def dkwX11_recovering_0 : List UInt8 := [3, 60, 27, 16, 16, 162, 0, 29, 42, 180, 0, 111, 17, 0, 144, 27, 96, 42, 180, 0, 111, 17, 0, 160]
abbrev dktX11_recovering_0 : List UInt8 := dkwX11_recovering_0 ++ dktX11_recovering_1
theorem dksX11_recovering_0 : cX11_recovering.data.toList.drop 0 = dktX11_recovering_0 := by decide +kernel
theorem dksX11_recovering_1 : cX11_recovering.data.toList.drop 24 = dktX11_recovering_1 := dk_seg dksX11_recovering_0 24 rfl rfl
theorem dksX11_recovering_2 : cX11_recovering.data.toList.drop 48 = dktX11_recovering_2 := dk_seg dksX11_recovering_1 24 rfl rfl
theorem dksX11_recovering_3 : cX11_recovering.data.toList.drop 70 = dktX11_recovering_3 := dk_seg dksX11_recovering_2 22 rfl rfl
theorem dksX11_recovering_4 : cX11_recovering.data.toList.drop 92 = dktX11_recovering_4 := dk_seg dksX11_recovering_3 22 rfl rfl
theorem dksX11_recovering_5 : cX11_recovering.data.toList.drop 115 = dktX11_recovering_5 := dk_seg dksX11_recovering_4 23 rfl rfl
theorem dksX11_recovering_6 : cX11_recovering.data.toList.drop 139 = dktX11_recovering_6 := dk_seg dksX11_recovering_5 24 rfl rfl
theorem dksX11_recovering_7 : cX11_recovering.data.toList.drop 163 = dktX11_recovering_7 := dk_seg dksX11_recovering_6 24 rfl rfl
theorem dksX11_recovering_8 : cX11_recovering.data.toList.drop 185 = dktX11_recovering_8 := dk_seg dksX11_recovering_7 22 rfl rfl
theorem dksX11_recovering_9 : cX11_recovering.data.toList.drop 209 = dktX11_recovering_9 := dk_seg dksX11_recovering_8 24 rfl rfl
theorem dksX11_recovering_10 : cX11_recovering.data.toList.drop 232 = dktX11_recovering_10 := dk_seg dksX11_recovering_9 23 rfl rfl
theorem dksX11_recovering_11 : cX11_recovering.data.toList.drop 256 = dktX11_recovering_11 := dk_seg dksX11_recovering_10 24 rfl rfl
theorem dX11_recovering_0 : decode cX11_recovering 0 = .ok (.iconst 0, 1) := dk_3 (dk_at dksX11_recovering_0 0 rfl rfl)
theorem dX11_recovering_1 : decode cX11_recovering 1 = .ok (.istore_n 1, 1) := dk_60 (dk_at dksX11_recovering_0 1 rfl rfl)
theorem dX11_recovering_2 : decode cX11_recovering 2 = .ok (.iload_n 1, 1) := dk_27 (dk_at dksX11_recovering_0 2 rfl rfl)
theorem dX11_recovering_3 : decode cX11_recovering 3 = .ok (.bipush 16, 2) := dk_16 16 (dk_at dksX11_recovering_0 3 rfl rfl)
theorem dX11_recovering_5 : decode cX11_recovering 5 = .ok (.if_icmp .ge 29, 3) := dk_162 0 29 (dk_at dksX11_recovering_0 5 rfl rfl)
theorem dX11_recovering_8 : decode cX11_recovering 8 = .ok (.aload_n 0, 1) := dk_42 (dk_at dksX11_recovering_0 8 rfl rfl)
theorem dX11_recovering_9 : decode cX11_recovering 9 = .ok (.getfield 111, 3) := dk_180 0 111 (dk_at dksX11_recovering_0 9 rfl rfl)
theorem dX11_recovering_12 : decode cX11_recovering 12 = .ok (.sipush 144, 3) := dk_17 0 144 (dk_at dksX11_recovering_0 12 rfl rfl)
theorem dX11_recovering_15 : decode cX11_recovering 15 = .ok (.iload_n 1, 1) := dk_27 (dk_at dksX11_recovering_0 15 rfl rfl)
theorem dX11_recovering_16 : decode cX11_recovering 16 = .ok (.iadd, 1) := dk_96 (dk_at dksX11_recovering_0 16 rfl rfl)
theorem dX11_recovering_17 : decode cX11_recovering 17 = .ok (.aload_n 0, 1) := dk_42 (dk_at dksX11_recovering_0 17 rfl rfl)
theorem dX11_recovering_18 : decode cX11_recovering 18 = .ok (.getfield 111, 3) := dk_180 0 111 (dk_at dksX11_recovering_0 18 rfl rfl)
theorem dX11_recovering_21 : decode cX11_recovering 21 = .ok (.sipush 160, 3) := dk_17 0 160 (dk_at dksX11_recovering_0 21 rfl rfl)
theorem dX11_recovering_24 : decode cX11_recovering 24 = .ok (.iload_n 1, 1) := dk_27 (dk_at dksX11_recovering_1 0 rfl rfl)
theorem dX11_recovering_25 : decode cX11_recovering 25 = .ok (.iadd, 1) := dk_96 (dk_at dksX11_recovering_1 1 rfl rfl)
theorem dX11_recovering_26 : decode cX11_recovering 26 = .ok (.iaload, 1) := dk_46 (dk_at dksX11_recovering_1 2 rfl rfl)
theorem dX11_recovering_27 : decode cX11_recovering 27 = .ok (.iastore, 1) := dk_79 (dk_at dksX11_recovering_1 3 rfl rfl)
theorem dX11_recovering_28 : decode cX11_recovering 28 = .ok (.iinc 1 1, 3) := dk_132 1 1 (dk_at dksX11_recovering_1 4 rfl rfl)
theorem dX11_recovering_31 : decode cX11_recovering 31 = .ok (.goto (-29), 3) := dk_167 255 227 (dk_at dksX11_recovering_1 7 rfl rfl)
theorem dX11_recovering_34 : decode cX11_recovering 34 = .ok (.iconst 0, 1) := dk_3 (dk_at dksX11_recovering_1 10 rfl rfl)
theorem dX11_recovering_35 : decode cX11_recovering 35 = .ok (.istore_n 1, 1) := dk_60 (dk_at dksX11_recovering_1 11 rfl rfl)
theorem dX11_recovering_36 : decode cX11_recovering 36 = .ok (.iload_n 1, 1) := dk_27 (dk_at dksX11_recovering_1 12 rfl rfl)
theorem dX11_recovering_37 : decode cX11_recovering 37 = .ok (.iconst 4, 1) := dk_7 (dk_at dksX11_recovering_1 13 rfl rfl)
theorem dX11_recovering_38 : decode cX11_recovering 38 = .ok (.if_icmp .ge 20, 3) := dk_162 0 20 (dk_at dksX11_recovering_1 14 rfl rfl)
theorem dX11_recovering_41 : decode cX11_recovering 41 = .ok (.aload_n 0, 1) := dk_42 (dk_at dksX11_recovering_1 17 rfl rfl)
theorem dX11_recovering_42 : decode cX11_recovering 42 = .ok (.getfield 111, 3) := dk_180 0 111 (dk_at dksX11_recovering_1 18 rfl rfl)
theorem dX11_recovering_45 : decode cX11_recovering 45 = .ok (.sipush 192, 3) := dk_17 0 192 (dk_at dksX11_recovering_1 21 rfl rfl)
theorem dX11_recovering_48 : decode cX11_recovering 48 = .ok (.iload_n 1, 1) := dk_27 (dk_at dksX11_recovering_2 0 rfl rfl)
theorem dX11_recovering_49 : decode cX11_recovering 49 = .ok (.iadd, 1) := dk_96 (dk_at dksX11_recovering_2 1 rfl rfl)
theorem dX11_recovering_50 : decode cX11_recovering 50 = .ok (.iconst (-1), 1) := dk_2 (dk_at dksX11_recovering_2 2 rfl rfl)
theorem dX11_recovering_51 : decode cX11_recovering 51 = .ok (.iastore, 1) := dk_79 (dk_at dksX11_recovering_2 3 rfl rfl)
theorem dX11_recovering_52 : decode cX11_recovering 52 = .ok (.iinc 1 1, 3) := dk_132 1 1 (dk_at dksX11_recovering_2 4 rfl rfl)
theorem dX11_recovering_55 : decode cX11_recovering 55 = .ok (.goto (-19), 3) := dk_167 255 237 (dk_at dksX11_recovering_2 7 rfl rfl)
theorem dX11_recovering_58 : decode cX11_recovering 58 = .ok (.iconst 0, 1) := dk_3 (dk_at dksX11_recovering_2 10 rfl rfl)
theorem dX11_recovering_59 : decode cX11_recovering 59 = .ok (.istore_n 1, 1) := dk_60 (dk_at dksX11_recovering_2 11 rfl rfl)
theorem dX11_recovering_60 : decode cX11_recovering 60 = .ok (.iload_n 1, 1) := dk_27 (dk_at dksX11_recovering_2 12 rfl rfl)
theorem dX11_recovering_61 : decode cX11_recovering 61 = .ok (.bipush 8, 2) := dk_16 8 (dk_at dksX11_recovering_2 13 rfl rfl)
theorem dX11_recovering_63 : decode cX11_recovering 63 = .ok (.if_icmp .ge 20, 3) := dk_162 0 20 (dk_at dksX11_recovering_2 15 rfl rfl)
theorem dX11_recovering_66 : decode cX11_recovering 66 = .ok (.aload_n 0, 1) := dk_42 (dk_at dksX11_recovering_2 18 rfl rfl)
theorem dX11_recovering_67 : decode cX11_recovering 67 = .ok (.getfield 111, 3) := dk_180 0 111 (dk_at dksX11_recovering_2 19 rfl rfl)
theorem dX11_recovering_70 : decode cX11_recovering 70 = .ok (.sipush 184, 3) := dk_17 0 184 (dk_at dksX11_recovering_3 0 rfl rfl)
theorem dX11_recovering_73 : decode cX11_recovering 73 = .ok (.iload_n 1, 1) := dk_27 (dk_at dksX11_recovering_3 3 rfl rfl)
theorem dX11_recovering_74 : decode cX11_recovering 74 = .ok (.iadd, 1) := dk_96 (dk_at dksX11_recovering_3 4 rfl rfl)
theorem dX11_recovering_75 : decode cX11_recovering 75 = .ok (.iconst (-1), 1) := dk_2 (dk_at dksX11_recovering_3 5 rfl rfl)
theorem dX11_recovering_76 : decode cX11_recovering 76 = .ok (.iastore, 1) := dk_79 (dk_at dksX11_recovering_3 6 rfl rfl)
theorem dX11_recovering_77 : decode cX11_recovering 77 = .ok (.iinc 1 1, 3) := dk_132 1 1 (dk_at dksX11_recovering_3 7 rfl rfl)
theorem dX11_recovering_80 : decode cX11_recovering 80 = .ok (.goto (-20), 3) := dk_167 255 236 (dk_at dksX11_recovering_3 10 rfl rfl)
theorem dX11_recovering_83 : decode cX11_recovering 83 = .ok (.aload_n 0, 1) := dk_42 (dk_at dksX11_recovering_3 13 rfl rfl)
theorem dX11_recovering_84 : decode cX11_recovering 84 = .ok (.getfield 111, 3) := dk_180 0 111 (dk_at dksX11_recovering_3 14 rfl rfl)
theorem dX11_recovering_87 : decode cX11_recovering 87 = .ok (.bipush 11, 2) := dk_16 11 (dk_at dksX11_recovering_3 17 rfl rfl)
theorem dX11_recovering_89 : decode cX11_recovering 89 = .ok (.iconst 0, 1) := dk_3 (dk_at dksX11_recovering_3 19 rfl rfl)
theorem dX11_recovering_90 : decode cX11_recovering 90 = .ok (.iastore, 1) := dk_79 (dk_at dksX11_recovering_3 20 rfl rfl)
theorem dX11_recovering_91 : decode cX11_recovering 91 = .ok (.aload_n 0, 1) := dk_42 (dk_at dksX11_recovering_3 21 rfl rfl)
theorem dX11_recovering_92 : decode cX11_recovering 92 = .ok (.getfield 111, 3) := dk_180 0 111 (dk_at dksX11_recovering_4 0 rfl rfl)
theorem dX11_recovering_95 : decode cX11_recovering 95 = .ok (.bipush 12, 2) := dk_16 12 (dk_at dksX11_recovering_4 3 rfl rfl)
theorem dX11_recovering_97 : decode cX11_recovering 97 = .ok (.iconst 0, 1) := dk_3 (dk_at dksX11_recovering_4 5 rfl rfl)
theorem dX11_recovering_98 : decode cX11_recovering 98 = .ok (.iastore, 1) := dk_79 (dk_at dksX11_recovering_4 6 rfl rfl)
theorem dX11_recovering_99 : decode cX11_recovering 99 = .ok (.aload_n 0, 1) := dk_42 (dk_at dksX11_recovering_4 7 rfl rfl)
theorem dX11_recovering_100 : decode cX11_recovering 100 = .ok (.invokevirtual 549, 3) := dk_182 2 37 (dk_at dksX11_recovering_4 8 rfl rfl)
theorem dX11_recovering_103 : decode cX11_recovering 103 = .ok (.istore_n 1, 1) := dk_60 (dk_at dksX11_recovering_4 11 rfl rfl)
theorem dX11_recovering_104 : decode cX11_recovering 104 = .ok (.aload_n 0, 1) := dk_42 (dk_at dksX11_recovering_4 12 rfl rfl)
theorem dX11_recovering_105 : decode cX11_recovering 105 = .ok (.getfield 111, 3) := dk_180 0 111 (dk_at dksX11_recovering_4 13 rfl rfl)
theorem dX11_recovering_108 : decode cX11_recovering 108 = .ok (.bipush 10, 2) := dk_16 10 (dk_at dksX11_recovering_4 16 rfl rfl)
theorem dX11_recovering_110 : decode cX11_recovering 110 = .ok (.iconst 0, 1) := dk_3 (dk_at dksX11_recovering_4 18 rfl rfl)
theorem dX11_recovering_111 : decode cX11_recovering 111 = .ok (.iastore, 1) := dk_79 (dk_at dksX11_recovering_4 19 rfl rfl)
theorem dX11_recovering_112 : decode cX11_recovering 112 = .ok (.aload_n 0, 1) := dk_42 (dk_at dksX11_recovering_4 20 rfl rfl)
theorem dX11_recovering_113 : decode cX11_recovering 113 = .ok (.iload_n 1, 1) := dk_27 (dk_at dksX11_recovering_4 21 rfl rfl)
theorem dX11_recovering_114 : decode cX11_recovering 114 = .ok (.iconst (-1), 1) := dk_2 (dk_at dksX11_recovering_4 22 rfl rfl)
theorem dX11_recovering_115 : decode cX11_recovering 115 = .ok (.if_icmp .ne 7, 3) := dk_160 0 7 (dk_at dksX11_recovering_5 0 rfl rfl)
theorem dX11_recovering_118 : decode cX11_recovering 118 = .ok (.iconst (-1), 1) := dk_2 (dk_at dksX11_recovering_5 3 rfl rfl)
theorem dX11_recovering_119 : decode cX11_recovering 119 = .ok (.goto 8, 3) := dk_167 0 8 (dk_at dksX11_recovering_5 4 rfl rfl)
theorem dX11_recovering_122 : decode cX11_recovering 122 = .ok (.aload_n 0, 1) := dk_42 (dk_at dksX11_recovering_5 7 rfl rfl)
theorem dX11_recovering_123 : decode cX11_recovering 123 = .ok (.iload_n 1, 1) := dk_27 (dk_at dksX11_recovering_5 8 rfl rfl)
theorem dX11_recovering_124 : decode cX11_recovering 124 = .ok (.invokevirtual 541, 3) := dk_182 2 29 (dk_at dksX11_recovering_5 9 rfl rfl)
theorem dX11_recovering_127 : decode cX11_recovering 127 = .ok (.putfield 510, 3) := dk_181 1 254 (dk_at dksX11_recovering_5 12 rfl rfl)
theorem dX11_recovering_130 : decode cX11_recovering 130 = .ok (.aload_n 0, 1) := dk_42 (dk_at dksX11_recovering_5 15 rfl rfl)
theorem dX11_recovering_131 : decode cX11_recovering 131 = .ok (.iconst 1, 1) := dk_4 (dk_at dksX11_recovering_5 16 rfl rfl)
theorem dX11_recovering_132 : decode cX11_recovering 132 = .ok (.putfield 507, 3) := dk_181 1 251 (dk_at dksX11_recovering_5 17 rfl rfl)
theorem dX11_recovering_135 : decode cX11_recovering 135 = .ok (.iload_n 1, 1) := dk_27 (dk_at dksX11_recovering_5 20 rfl rfl)
theorem dX11_recovering_136 : decode cX11_recovering 136 = .ok (.istore_n 2, 1) := dk_61 (dk_at dksX11_recovering_5 21 rfl rfl)
theorem dX11_recovering_137 : decode cX11_recovering 137 = .ok (.iload_n 2, 1) := dk_28 (dk_at dksX11_recovering_5 22 rfl rfl)
theorem dX11_recovering_138 : decode cX11_recovering 138 = .ok (.iconst (-1), 1) := dk_2 (dk_at dksX11_recovering_5 23 rfl rfl)
theorem dX11_recovering_139 : decode cX11_recovering 139 = .ok (.if_icmp .eq 19, 3) := dk_159 0 19 (dk_at dksX11_recovering_6 0 rfl rfl)
theorem dX11_recovering_142 : decode cX11_recovering 142 = .ok (.iload_n 2, 1) := dk_28 (dk_at dksX11_recovering_6 3 rfl rfl)
theorem dX11_recovering_143 : decode cX11_recovering 143 = .ok (.istore_n 1, 1) := dk_60 (dk_at dksX11_recovering_6 4 rfl rfl)
theorem dX11_recovering_144 : decode cX11_recovering 144 = .ok (.aload_n 0, 1) := dk_42 (dk_at dksX11_recovering_6 5 rfl rfl)
theorem dX11_recovering_145 : decode cX11_recovering 145 = .ok (.iload_n 1, 1) := dk_27 (dk_at dksX11_recovering_6 6 rfl rfl)
theorem dX11_recovering_146 : decode cX11_recovering 146 = .ok (.invokevirtual 538, 3) := dk_182 2 26 (dk_at dksX11_recovering_6 7 rfl rfl)
theorem dX11_recovering_149 : decode cX11_recovering 149 = .ok (.aload_n 0, 1) := dk_42 (dk_at dksX11_recovering_6 10 rfl rfl)
theorem dX11_recovering_150 : decode cX11_recovering 150 = .ok (.iload_n 1, 1) := dk_27 (dk_at dksX11_recovering_6 11 rfl rfl)
theorem dX11_recovering_151 : decode cX11_recovering 151 = .ok (.invokevirtual 552, 3) := dk_182 2 40 (dk_at dksX11_recovering_6 12 rfl rfl)
theorem dX11_recovering_154 : decode cX11_recovering 154 = .ok (.istore_n 2, 1) := dk_61 (dk_at dksX11_recovering_6 15 rfl rfl)
theorem dX11_recovering_155 : decode cX11_recovering 155 = .ok (.goto (-18), 3) := dk_167 255 238 (dk_at dksX11_recovering_6 16 rfl rfl)
theorem dX11_recovering_158 : decode cX11_recovering 158 = .ok (.aload_n 0, 1) := dk_42 (dk_at dksX11_recovering_6 19 rfl rfl)
theorem dX11_recovering_159 : decode cX11_recovering 159 = .ok (.getfield 510, 3) := dk_180 1 254 (dk_at dksX11_recovering_6 20 rfl rfl)
theorem dX11_recovering_162 : decode cX11_recovering 162 = .ok (.aload_n 0, 1) := dk_42 (dk_at dksX11_recovering_6 23 rfl rfl)
theorem dX11_recovering_163 : decode cX11_recovering 163 = .ok (.getfield 111, 3) := dk_180 0 111 (dk_at dksX11_recovering_7 0 rfl rfl)
theorem dX11_recovering_166 : decode cX11_recovering 166 = .ok (.bipush 9, 2) := dk_16 9 (dk_at dksX11_recovering_7 3 rfl rfl)
theorem dX11_recovering_168 : decode cX11_recovering 168 = .ok (.iaload, 1) := dk_46 (dk_at dksX11_recovering_7 5 rfl rfl)
theorem dX11_recovering_169 : decode cX11_recovering 169 = .ok (.if_icmp .ge 8, 3) := dk_162 0 8 (dk_at dksX11_recovering_7 6 rfl rfl)
theorem dX11_recovering_172 : decode cX11_recovering 172 = .ok (.aload_n 0, 1) := dk_42 (dk_at dksX11_recovering_7 9 rfl rfl)
theorem dX11_recovering_173 : decode cX11_recovering 173 = .ok (.invokevirtual 555, 3) := dk_182 2 43 (dk_at dksX11_recovering_7 10 rfl rfl)
theorem dX11_recovering_176 : decode cX11_recovering 176 = .ok (.return_, 1) := dk_177 (dk_at dksX11_recovering_7 13 rfl rfl)
theorem dX11_recovering_177 : decode cX11_recovering 177 = .ok (.aload_n 0, 1) := dk_42 (dk_at dksX11_recovering_7 14 rfl rfl)
theorem dX11_recovering_178 : decode cX11_recovering 178 = .ok (.getfield 111, 3) := dk_180 0 111 (dk_at dksX11_recovering_7 15 rfl rfl)
theorem dX11_recovering_181 : decode cX11_recovering 181 = .ok (.iconst 5, 1) := dk_8 (dk_at dksX11_recovering_7 18 rfl rfl)
theorem dX11_recovering_182 : decode cX11_recovering 182 = .ok (.iload_n 1, 1) := dk_27 (dk_at dksX11_recovering_7 19 rfl rfl)
theorem dX11_recovering_183 : decode cX11_recovering 183 = .ok (.iastore, 1) := dk_79 (dk_at dksX11_recovering_7 20 rfl rfl)
theorem dX11_recovering_184 : decode cX11_recovering 184 = .ok (.aload_n 0, 1) := dk_42 (dk_at dksX11_recovering_7 21 rfl rfl)
theorem dX11_recovering_185 : decode cX11_recovering 185 = .ok (.getfield 111, 3) := dk_180 0 111 (dk_at dksX11_recovering_8 0 rfl rfl)
theorem dX11_recovering_188 : decode cX11_recovering 188 = .ok (.bipush 6, 2) := dk_16 6 (dk_at dksX11_recovering_8 3 rfl rfl)
theorem dX11_recovering_190 : decode cX11_recovering 190 = .ok (.aload_n 0, 1) := dk_42 (dk_at dksX11_recovering_8 5 rfl rfl)
theorem dX11_recovering_191 : decode cX11_recovering 191 = .ok (.getfield 516, 3) := dk_180 2 4 (dk_at dksX11_recovering_8 6 rfl rfl)
theorem dX11_recovering_194 : decode cX11_recovering 194 = .ok (.iastore, 1) := dk_79 (dk_at dksX11_recovering_8 9 rfl rfl)
theorem dX11_recovering_195 : decode cX11_recovering 195 = .ok (.aload_n 0, 1) := dk_42 (dk_at dksX11_recovering_8 10 rfl rfl)
theorem dX11_recovering_196 : decode cX11_recovering 196 = .ok (.getfield 111, 3) := dk_180 0 111 (dk_at dksX11_recovering_8 11 rfl rfl)
theorem dX11_recovering_199 : decode cX11_recovering 199 = .ok (.bipush 7, 2) := dk_16 7 (dk_at dksX11_recovering_8 14 rfl rfl)
theorem dX11_recovering_201 : decode cX11_recovering 201 = .ok (.aload_n 0, 1) := dk_42 (dk_at dksX11_recovering_8 16 rfl rfl)
theorem dX11_recovering_202 : decode cX11_recovering 202 = .ok (.iload_n 1, 1) := dk_27 (dk_at dksX11_recovering_8 17 rfl rfl)
theorem dX11_recovering_203 : decode cX11_recovering 203 = .ok (.invokevirtual 497, 3) := dk_182 1 241 (dk_at dksX11_recovering_8 18 rfl rfl)
theorem dX11_recovering_206 : decode cX11_recovering 206 = .ok (.iastore, 1) := dk_79 (dk_at dksX11_recovering_8 21 rfl rfl)
theorem dX11_recovering_207 : decode cX11_recovering 207 = .ok (.aload_n 0, 1) := dk_42 (dk_at dksX11_recovering_8 22 rfl rfl)
theorem dX11_recovering_208 : decode cX11_recovering 208 = .ok (.iload_n 1, 1) := dk_27 (dk_at dksX11_recovering_8 23 rfl rfl)
theorem dX11_recovering_209 : decode cX11_recovering 209 = .ok (.invokevirtual 558, 3) := dk_182 2 46 (dk_at dksX11_recovering_9 0 rfl rfl)
theorem dX11_recovering_212 : decode cX11_recovering 212 = .ok (.ifCond .eq 14, 3) := dk_153 0 14 (dk_at dksX11_recovering_9 3 rfl rfl)
theorem dX11_recovering_215 : decode cX11_recovering 215 = .ok (.aload_n 0, 1) := dk_42 (dk_at dksX11_recovering_9 6 rfl rfl)
theorem dX11_recovering_216 : decode cX11_recovering 216 = .ok (.getfield 111, 3) := dk_180 0 111 (dk_at dksX11_recovering_9 7 rfl rfl)
theorem dX11_recovering_219 : decode cX11_recovering 219 = .ok (.bipush 10, 2) := dk_16 10 (dk_at dksX11_recovering_9 10 rfl rfl)
theorem dX11_recovering_221 : decode cX11_recovering 221 = .ok (.iconst 1, 1) := dk_4 (dk_at dksX11_recovering_9 12 rfl rfl)
theorem dX11_recovering_222 : decode cX11_recovering 222 = .ok (.iastore, 1) := dk_79 (dk_at dksX11_recovering_9 13 rfl rfl)
theorem dX11_recovering_223 : decode cX11_recovering 223 = .ok (.goto 13, 3) := dk_167 0 13 (dk_at dksX11_recovering_9 14 rfl rfl)
theorem dX11_recovering_226 : decode cX11_recovering 226 = .ok (.aload_n 0, 1) := dk_42 (dk_at dksX11_recovering_9 17 rfl rfl)
theorem dX11_recovering_227 : decode cX11_recovering 227 = .ok (.iload_n 1, 1) := dk_27 (dk_at dksX11_recovering_9 18 rfl rfl)
theorem dX11_recovering_228 : decode cX11_recovering 228 = .ok (.aload_n 0, 1) := dk_42 (dk_at dksX11_recovering_9 19 rfl rfl)
theorem dX11_recovering_229 : decode cX11_recovering 229 = .ok (.getfield 516, 3) := dk_180 2 4 (dk_at dksX11_recovering_9 20 rfl rfl)
theorem dX11_recovering_232 : decode cX11_recovering 232 = .ok (.invokevirtual 561, 3) := dk_182 2 49 (dk_at dksX11_recovering_10 0 rfl rfl)
theorem dX11_recovering_235 : decode cX11_recovering 235 = .ok (.pop, 1) := dk_87 (dk_at dksX11_recovering_10 3 rfl rfl)
theorem dX11_recovering_236 : decode cX11_recovering 236 = .ok (.aload_n 0, 1) := dk_42 (dk_at dksX11_recovering_10 4 rfl rfl)
theorem dX11_recovering_237 : decode cX11_recovering 237 = .ok (.getfield 111, 3) := dk_180 0 111 (dk_at dksX11_recovering_10 5 rfl rfl)
theorem dX11_recovering_240 : decode cX11_recovering 240 = .ok (.iconst 1, 1) := dk_4 (dk_at dksX11_recovering_10 8 rfl rfl)
theorem dX11_recovering_241 : decode cX11_recovering 241 = .ok (.aload_n 0, 1) := dk_42 (dk_at dksX11_recovering_10 9 rfl rfl)
theorem dX11_recovering_242 : decode cX11_recovering 242 = .ok (.getfield 510, 3) := dk_180 1 254 (dk_at dksX11_recovering_10 10 rfl rfl)
theorem dX11_recovering_245 : decode cX11_recovering 245 = .ok (.iastore, 1) := dk_79 (dk_at dksX11_recovering_10 13 rfl rfl)
theorem dX11_recovering_246 : decode cX11_recovering 246 = .ok (.aload_n 0, 1) := dk_42 (dk_at dksX11_recovering_10 14 rfl rfl)
theorem dX11_recovering_247 : decode cX11_recovering 247 = .ok (.getfield 111, 3) := dk_180 0 111 (dk_at dksX11_recovering_10 15 rfl rfl)
theorem dX11_recovering_250 : decode cX11_recovering 250 = .ok (.iconst 2, 1) := dk_5 (dk_at dksX11_recovering_10 18 rfl rfl)
theorem dX11_recovering_251 : decode cX11_recovering 251 = .ok (.aload_n 0, 1) := dk_42 (dk_at dksX11_recovering_10 19 rfl rfl)
theorem dX11_recovering_252 : decode cX11_recovering 252 = .ok (.getfield 510, 3) := dk_180 1 254 (dk_at dksX11_recovering_10 20 rfl rfl)
theorem dX11_recovering_255 : decode cX11_recovering 255 = .ok (.iastore, 1) := dk_79 (dk_at dksX11_recovering_10 23 rfl rfl)
theorem dX11_recovering_256 : decode cX11_recovering 256 = .ok (.return_, 1) := dk_177 (dk_at dksX11_recovering_11 0 rfl rfl)
abbrev cX11_beginner : ByteArray := prog_26_method_71_code
def yX11_beginner : MethodName := ⟨RX11, "beginner", "()I"⟩
def dkwX11_beginner_2 : List UInt8 := [27, 182, 1, 241, 164, 0, 5, 28, 60, 132, 2, 1, 167, 255, 202, 27, 172]
abbrev dktX11_beginner_2 : List UInt8 := dkwX11_beginner_2 ++ []
def dkwX11_beginner_1 : List UInt8 := [182, 2, 29, 42, 180, 0, 111, 16, 9, 46, 163, 0, 23, 27, 2, 159, 0, 16, 42, 28, 182, 1, 241, 42]
abbrev dktX11_beginner_1 : List UInt8 := dkwX11_beginner_1 ++ dktX11_beginner_2
def dkwX11_beginner_0 : List UInt8 := [2, 60, 3, 61, 28, 42, 182, 1, 104, 162, 0, 52, 42, 28, 182, 2, 23, 153, 0, 38, 42, 28]
abbrev dktX11_beginner_0 : List UInt8 := dkwX11_beginner_0 ++ dktX11_beginner_1
theorem dksX11_beginner_0 : cX11_beginner.data.toList.drop 0 = dktX11_beginner_0 := by decide +kernel
theorem dksX11_beginner_1 : cX11_beginner.data.toList.drop 22 = dktX11_beginner_1 := dk_seg dksX11_beginner_0 22 rfl rfl
theorem dksX11_beginner_2 : cX11_beginner.data.toList.drop 46 = dktX11_beginner_2 := dk_seg dksX11_beginner_1 24 rfl rfl
theorem dX11_beginner_0 : decode cX11_beginner 0 = .ok (.iconst (-1), 1) := dk_2 (dk_at dksX11_beginner_0 0 rfl rfl)
theorem dX11_beginner_1 : decode cX11_beginner 1 = .ok (.istore_n 1, 1) := dk_60 (dk_at dksX11_beginner_0 1 rfl rfl)
theorem dX11_beginner_2 : decode cX11_beginner 2 = .ok (.iconst 0, 1) := dk_3 (dk_at dksX11_beginner_0 2 rfl rfl)
theorem dX11_beginner_3 : decode cX11_beginner 3 = .ok (.istore_n 2, 1) := dk_61 (dk_at dksX11_beginner_0 3 rfl rfl)
theorem dX11_beginner_4 : decode cX11_beginner 4 = .ok (.iload_n 2, 1) := dk_28 (dk_at dksX11_beginner_0 4 rfl rfl)
theorem dX11_beginner_5 : decode cX11_beginner 5 = .ok (.aload_n 0, 1) := dk_42 (dk_at dksX11_beginner_0 5 rfl rfl)
theorem dX11_beginner_6 : decode cX11_beginner 6 = .ok (.invokevirtual 360, 3) := dk_182 1 104 (dk_at dksX11_beginner_0 6 rfl rfl)
theorem dX11_beginner_9 : decode cX11_beginner 9 = .ok (.if_icmp .ge 52, 3) := dk_162 0 52 (dk_at dksX11_beginner_0 9 rfl rfl)
theorem dX11_beginner_12 : decode cX11_beginner 12 = .ok (.aload_n 0, 1) := dk_42 (dk_at dksX11_beginner_0 12 rfl rfl)
theorem dX11_beginner_13 : decode cX11_beginner 13 = .ok (.iload_n 2, 1) := dk_28 (dk_at dksX11_beginner_0 13 rfl rfl)
theorem dX11_beginner_14 : decode cX11_beginner 14 = .ok (.invokevirtual 535, 3) := dk_182 2 23 (dk_at dksX11_beginner_0 14 rfl rfl)
theorem dX11_beginner_17 : decode cX11_beginner 17 = .ok (.ifCond .eq 38, 3) := dk_153 0 38 (dk_at dksX11_beginner_0 17 rfl rfl)
theorem dX11_beginner_20 : decode cX11_beginner 20 = .ok (.aload_n 0, 1) := dk_42 (dk_at dksX11_beginner_0 20 rfl rfl)
theorem dX11_beginner_21 : decode cX11_beginner 21 = .ok (.iload_n 2, 1) := dk_28 (dk_at dksX11_beginner_0 21 rfl rfl)
theorem dX11_beginner_22 : decode cX11_beginner 22 = .ok (.invokevirtual 541, 3) := dk_182 2 29 (dk_at dksX11_beginner_1 0 rfl rfl)
theorem dX11_beginner_25 : decode cX11_beginner 25 = .ok (.aload_n 0, 1) := dk_42 (dk_at dksX11_beginner_1 3 rfl rfl)
theorem dX11_beginner_26 : decode cX11_beginner 26 = .ok (.getfield 111, 3) := dk_180 0 111 (dk_at dksX11_beginner_1 4 rfl rfl)
theorem dX11_beginner_29 : decode cX11_beginner 29 = .ok (.bipush 9, 2) := dk_16 9 (dk_at dksX11_beginner_1 7 rfl rfl)
theorem dX11_beginner_31 : decode cX11_beginner 31 = .ok (.iaload, 1) := dk_46 (dk_at dksX11_beginner_1 9 rfl rfl)
theorem dX11_beginner_32 : decode cX11_beginner 32 = .ok (.if_icmp .gt 23, 3) := dk_163 0 23 (dk_at dksX11_beginner_1 10 rfl rfl)
theorem dX11_beginner_35 : decode cX11_beginner 35 = .ok (.iload_n 1, 1) := dk_27 (dk_at dksX11_beginner_1 13 rfl rfl)
theorem dX11_beginner_36 : decode cX11_beginner 36 = .ok (.iconst (-1), 1) := dk_2 (dk_at dksX11_beginner_1 14 rfl rfl)
theorem dX11_beginner_37 : decode cX11_beginner 37 = .ok (.if_icmp .eq 16, 3) := dk_159 0 16 (dk_at dksX11_beginner_1 15 rfl rfl)
theorem dX11_beginner_40 : decode cX11_beginner 40 = .ok (.aload_n 0, 1) := dk_42 (dk_at dksX11_beginner_1 18 rfl rfl)
theorem dX11_beginner_41 : decode cX11_beginner 41 = .ok (.iload_n 2, 1) := dk_28 (dk_at dksX11_beginner_1 19 rfl rfl)
theorem dX11_beginner_42 : decode cX11_beginner 42 = .ok (.invokevirtual 497, 3) := dk_182 1 241 (dk_at dksX11_beginner_1 20 rfl rfl)
theorem dX11_beginner_45 : decode cX11_beginner 45 = .ok (.aload_n 0, 1) := dk_42 (dk_at dksX11_beginner_1 23 rfl rfl)
theorem dX11_beginner_46 : decode cX11_beginner 46 = .ok (.iload_n 1, 1) := dk_27 (dk_at dksX11_beginner_2 0 rfl rfl)
theorem dX11_beginner_47 : decode cX11_beginner 47 = .ok (.invokevirtual 497, 3) := dk_182 1 241 (dk_at dksX11_beginner_2 1 rfl rfl)
theorem dX11_beginner_50 : decode cX11_beginner 50 = .ok (.if_icmp .le 5, 3) := dk_164 0 5 (dk_at dksX11_beginner_2 4 rfl rfl)
theorem dX11_beginner_53 : decode cX11_beginner 53 = .ok (.iload_n 2, 1) := dk_28 (dk_at dksX11_beginner_2 7 rfl rfl)
theorem dX11_beginner_54 : decode cX11_beginner 54 = .ok (.istore_n 1, 1) := dk_60 (dk_at dksX11_beginner_2 8 rfl rfl)
theorem dX11_beginner_55 : decode cX11_beginner 55 = .ok (.iinc 2 1, 3) := dk_132 2 1 (dk_at dksX11_beginner_2 9 rfl rfl)
theorem dX11_beginner_58 : decode cX11_beginner 58 = .ok (.goto (-54), 3) := dk_167 255 202 (dk_at dksX11_beginner_2 12 rfl rfl)
theorem dX11_beginner_61 : decode cX11_beginner 61 = .ok (.iload_n 1, 1) := dk_27 (dk_at dksX11_beginner_2 15 rfl rfl)
theorem dX11_beginner_62 : decode cX11_beginner 62 = .ok (.ireturn, 1) := dk_172 (dk_at dksX11_beginner_2 16 rfl rfl)
abbrev cX11_follower : ByteArray := prog_26_method_73_code
def yX11_follower : MethodName := ⟨RX11, "follower", "(I)I"⟩
def dkwX11_follower_2 : List UInt8 := [29, 61, 132, 3, 1, 167, 255, 208, 28, 172]
abbrev dktX11_follower_2 : List UInt8 := dkwX11_follower_2 ++ []
def dkwX11_follower_1 : List UInt8 := [182, 2, 29, 42, 180, 1, 254, 160, 0, 19, 28, 2, 159, 0, 12, 42, 29, 28, 182, 2, 32, 153, 0, 5]
abbrev dktX11_follower_1 : List UInt8 := dkwX11_follower_1 ++ dktX11_follower_2
def dkwX11_follower_0 : List UInt8 := [2, 61, 3, 62, 29, 42, 182, 1, 104, 162, 0, 46, 42, 29, 27, 182, 2, 32, 153, 0, 31, 42, 29]
abbrev dktX11_follower_0 : List UInt8 := dkwX11_follower_0 ++ dktX11_follower_1
theorem dksX11_follower_0 : cX11_follower.data.toList.drop 0 = dktX11_follower_0 := by decide +kernel
theorem dksX11_follower_1 : cX11_follower.data.toList.drop 23 = dktX11_follower_1 := dk_seg dksX11_follower_0 23 rfl rfl
theorem dksX11_follower_2 : cX11_follower.data.toList.drop 47 = dktX11_follower_2 := dk_seg dksX11_follower_1 24 rfl rfl
theorem dX11_follower_0 : decode cX11_follower 0 = .ok (.iconst (-1), 1) := dk_2 (dk_at dksX11_follower_0 0 rfl rfl)
theorem dX11_follower_1 : decode cX11_follower 1 = .ok (.istore_n 2, 1) := dk_61 (dk_at dksX11_follower_0 1 rfl rfl)
theorem dX11_follower_2 : decode cX11_follower 2 = .ok (.iconst 0, 1) := dk_3 (dk_at dksX11_follower_0 2 rfl rfl)
theorem dX11_follower_3 : decode cX11_follower 3 = .ok (.istore_n 3, 1) := dk_62 (dk_at dksX11_follower_0 3 rfl rfl)
theorem dX11_follower_4 : decode cX11_follower 4 = .ok (.iload_n 3, 1) := dk_29 (dk_at dksX11_follower_0 4 rfl rfl)
theorem dX11_follower_5 : decode cX11_follower 5 = .ok (.aload_n 0, 1) := dk_42 (dk_at dksX11_follower_0 5 rfl rfl)
theorem dX11_follower_6 : decode cX11_follower 6 = .ok (.invokevirtual 360, 3) := dk_182 1 104 (dk_at dksX11_follower_0 6 rfl rfl)
theorem dX11_follower_9 : decode cX11_follower 9 = .ok (.if_icmp .ge 46, 3) := dk_162 0 46 (dk_at dksX11_follower_0 9 rfl rfl)
theorem dX11_follower_12 : decode cX11_follower 12 = .ok (.aload_n 0, 1) := dk_42 (dk_at dksX11_follower_0 12 rfl rfl)
theorem dX11_follower_13 : decode cX11_follower 13 = .ok (.iload_n 3, 1) := dk_29 (dk_at dksX11_follower_0 13 rfl rfl)
theorem dX11_follower_14 : decode cX11_follower 14 = .ok (.iload_n 1, 1) := dk_27 (dk_at dksX11_follower_0 14 rfl rfl)
theorem dX11_follower_15 : decode cX11_follower 15 = .ok (.invokevirtual 544, 3) := dk_182 2 32 (dk_at dksX11_follower_0 15 rfl rfl)
theorem dX11_follower_18 : decode cX11_follower 18 = .ok (.ifCond .eq 31, 3) := dk_153 0 31 (dk_at dksX11_follower_0 18 rfl rfl)
theorem dX11_follower_21 : decode cX11_follower 21 = .ok (.aload_n 0, 1) := dk_42 (dk_at dksX11_follower_0 21 rfl rfl)
theorem dX11_follower_22 : decode cX11_follower 22 = .ok (.iload_n 3, 1) := dk_29 (dk_at dksX11_follower_0 22 rfl rfl)
theorem dX11_follower_23 : decode cX11_follower 23 = .ok (.invokevirtual 541, 3) := dk_182 2 29 (dk_at dksX11_follower_1 0 rfl rfl)
theorem dX11_follower_26 : decode cX11_follower 26 = .ok (.aload_n 0, 1) := dk_42 (dk_at dksX11_follower_1 3 rfl rfl)
theorem dX11_follower_27 : decode cX11_follower 27 = .ok (.getfield 510, 3) := dk_180 1 254 (dk_at dksX11_follower_1 4 rfl rfl)
theorem dX11_follower_30 : decode cX11_follower 30 = .ok (.if_icmp .ne 19, 3) := dk_160 0 19 (dk_at dksX11_follower_1 7 rfl rfl)
theorem dX11_follower_33 : decode cX11_follower 33 = .ok (.iload_n 2, 1) := dk_28 (dk_at dksX11_follower_1 10 rfl rfl)
theorem dX11_follower_34 : decode cX11_follower 34 = .ok (.iconst (-1), 1) := dk_2 (dk_at dksX11_follower_1 11 rfl rfl)
theorem dX11_follower_35 : decode cX11_follower 35 = .ok (.if_icmp .eq 12, 3) := dk_159 0 12 (dk_at dksX11_follower_1 12 rfl rfl)
theorem dX11_follower_38 : decode cX11_follower 38 = .ok (.aload_n 0, 1) := dk_42 (dk_at dksX11_follower_1 15 rfl rfl)
theorem dX11_follower_39 : decode cX11_follower 39 = .ok (.iload_n 3, 1) := dk_29 (dk_at dksX11_follower_1 16 rfl rfl)
theorem dX11_follower_40 : decode cX11_follower 40 = .ok (.iload_n 2, 1) := dk_28 (dk_at dksX11_follower_1 17 rfl rfl)
theorem dX11_follower_41 : decode cX11_follower 41 = .ok (.invokevirtual 544, 3) := dk_182 2 32 (dk_at dksX11_follower_1 18 rfl rfl)
theorem dX11_follower_44 : decode cX11_follower 44 = .ok (.ifCond .eq 5, 3) := dk_153 0 5 (dk_at dksX11_follower_1 21 rfl rfl)
theorem dX11_follower_47 : decode cX11_follower 47 = .ok (.iload_n 3, 1) := dk_29 (dk_at dksX11_follower_2 0 rfl rfl)
theorem dX11_follower_48 : decode cX11_follower 48 = .ok (.istore_n 2, 1) := dk_61 (dk_at dksX11_follower_2 1 rfl rfl)
theorem dX11_follower_49 : decode cX11_follower 49 = .ok (.iinc 3 1, 3) := dk_132 3 1 (dk_at dksX11_follower_2 2 rfl rfl)
theorem dX11_follower_52 : decode cX11_follower 52 = .ok (.goto (-48), 3) := dk_167 255 208 (dk_at dksX11_follower_2 5 rfl rfl)
theorem dX11_follower_55 : decode cX11_follower 55 = .ok (.iload_n 2, 1) := dk_28 (dk_at dksX11_follower_2 8 rfl rfl)
theorem dX11_follower_56 : decode cX11_follower 56 = .ok (.ireturn, 1) := dk_172 (dk_at dksX11_follower_2 9 rfl rfl)
abbrev cX11_isGreater : ByteArray := prog_26_method_72_code
def yX11_isGreater : MethodName := ⟨RX11, "isGreater", "(II)Z"⟩
def dkwX11_isGreater_1 : List UInt8 := [167, 0, 4, 3, 172]
abbrev dktX11_isGreater_1 : List UInt8 := dkwX11_isGreater_1 ++ []
def dkwX11_isGreater_0 : List UInt8 := [42, 27, 182, 2, 23, 153, 0, 20, 42, 27, 182, 1, 241, 42, 28, 182, 1, 241, 164, 0, 7, 4]
abbrev dktX11_isGreater_0 : List UInt8 := dkwX11_isGreater_0 ++ dktX11_isGreater_1
theorem dksX11_isGreater_0 : cX11_isGreater.data.toList.drop 0 = dktX11_isGreater_0 := by decide +kernel
theorem dksX11_isGreater_1 : cX11_isGreater.data.toList.drop 22 = dktX11_isGreater_1 := dk_seg dksX11_isGreater_0 22 rfl rfl
theorem dX11_isGreater_0 : decode cX11_isGreater 0 = .ok (.aload_n 0, 1) := dk_42 (dk_at dksX11_isGreater_0 0 rfl rfl)
theorem dX11_isGreater_1 : decode cX11_isGreater 1 = .ok (.iload_n 1, 1) := dk_27 (dk_at dksX11_isGreater_0 1 rfl rfl)
theorem dX11_isGreater_2 : decode cX11_isGreater 2 = .ok (.invokevirtual 535, 3) := dk_182 2 23 (dk_at dksX11_isGreater_0 2 rfl rfl)
theorem dX11_isGreater_5 : decode cX11_isGreater 5 = .ok (.ifCond .eq 20, 3) := dk_153 0 20 (dk_at dksX11_isGreater_0 5 rfl rfl)
theorem dX11_isGreater_8 : decode cX11_isGreater 8 = .ok (.aload_n 0, 1) := dk_42 (dk_at dksX11_isGreater_0 8 rfl rfl)
theorem dX11_isGreater_9 : decode cX11_isGreater 9 = .ok (.iload_n 1, 1) := dk_27 (dk_at dksX11_isGreater_0 9 rfl rfl)
theorem dX11_isGreater_10 : decode cX11_isGreater 10 = .ok (.invokevirtual 497, 3) := dk_182 1 241 (dk_at dksX11_isGreater_0 10 rfl rfl)
theorem dX11_isGreater_13 : decode cX11_isGreater 13 = .ok (.aload_n 0, 1) := dk_42 (dk_at dksX11_isGreater_0 13 rfl rfl)
theorem dX11_isGreater_14 : decode cX11_isGreater 14 = .ok (.iload_n 2, 1) := dk_28 (dk_at dksX11_isGreater_0 14 rfl rfl)
theorem dX11_isGreater_15 : decode cX11_isGreater 15 = .ok (.invokevirtual 497, 3) := dk_182 1 241 (dk_at dksX11_isGreater_0 15 rfl rfl)
theorem dX11_isGreater_18 : decode cX11_isGreater 18 = .ok (.if_icmp .le 7, 3) := dk_164 0 7 (dk_at dksX11_isGreater_0 18 rfl rfl)
theorem dX11_isGreater_21 : decode cX11_isGreater 21 = .ok (.iconst 1, 1) := dk_4 (dk_at dksX11_isGreater_0 21 rfl rfl)
theorem dX11_isGreater_22 : decode cX11_isGreater 22 = .ok (.goto 4, 3) := dk_167 0 4 (dk_at dksX11_isGreater_1 0 rfl rfl)
theorem dX11_isGreater_25 : decode cX11_isGreater 25 = .ok (.iconst 0, 1) := dk_3 (dk_at dksX11_isGreater_1 3 rfl rfl)
theorem dX11_isGreater_26 : decode cX11_isGreater 26 = .ok (.ireturn, 1) := dk_172 (dk_at dksX11_isGreater_1 4 rfl rfl)
abbrev cX11_endsWithoutGround : ByteArray := prog_26_method_77_code
def yX11_endsWithoutGround : MethodName := ⟨RX11, "endsWithoutGround", "()V"⟩
def dkwX11_endsWithoutGround_3 : List UInt8 := [5, 42, 180, 0, 111, 16, 9, 46, 79, 177]
abbrev dktX11_endsWithoutGround_3 : List UInt8 := dkwX11_endsWithoutGround_3 ++ []
def dkwX11_endsWithoutGround_2 : List UInt8 := [180, 0, 111, 16, 10, 4, 79, 42, 180, 0, 111, 4, 42, 180, 0, 111, 16, 9, 46, 79, 42, 180, 0, 111]
abbrev dktX11_endsWithoutGround_2 : List UInt8 := dkwX11_endsWithoutGround_2 ++ dktX11_endsWithoutGround_3
def dkwX11_endsWithoutGround_1 : List UInt8 := [42, 180, 0, 111, 8, 3, 79, 42, 180, 0, 111, 16, 6, 8, 79, 42, 180, 0, 111, 16, 7, 3, 79, 42]
abbrev dktX11_endsWithoutGround_1 : List UInt8 := dkwX11_endsWithoutGround_1 ++ dktX11_endsWithoutGround_2
def dkwX11_endsWithoutGround_0 : List UInt8 := [3, 60, 27, 7, 162, 0, 20, 42, 180, 0, 111, 17, 0, 192, 27, 96, 2, 79, 132, 1, 1, 167, 255, 237]
abbrev dktX11_endsWithoutGround_0 : List UInt8 := dkwX11_endsWithoutGround_0 ++ dktX11_endsWithoutGround_1
theorem dksX11_endsWithoutGround_0 : cX11_endsWithoutGround.data.toList.drop 0 = dktX11_endsWithoutGround_0 := by decide +kernel
theorem dksX11_endsWithoutGround_1 : cX11_endsWithoutGround.data.toList.drop 24 = dktX11_endsWithoutGround_1 := dk_seg dksX11_endsWithoutGround_0 24 rfl rfl
theorem dksX11_endsWithoutGround_2 : cX11_endsWithoutGround.data.toList.drop 48 = dktX11_endsWithoutGround_2 := dk_seg dksX11_endsWithoutGround_1 24 rfl rfl
theorem dksX11_endsWithoutGround_3 : cX11_endsWithoutGround.data.toList.drop 72 = dktX11_endsWithoutGround_3 := dk_seg dksX11_endsWithoutGround_2 24 rfl rfl
theorem dX11_endsWithoutGround_0 : decode cX11_endsWithoutGround 0 = .ok (.iconst 0, 1) := dk_3 (dk_at dksX11_endsWithoutGround_0 0 rfl rfl)
theorem dX11_endsWithoutGround_1 : decode cX11_endsWithoutGround 1 = .ok (.istore_n 1, 1) := dk_60 (dk_at dksX11_endsWithoutGround_0 1 rfl rfl)
theorem dX11_endsWithoutGround_2 : decode cX11_endsWithoutGround 2 = .ok (.iload_n 1, 1) := dk_27 (dk_at dksX11_endsWithoutGround_0 2 rfl rfl)
theorem dX11_endsWithoutGround_3 : decode cX11_endsWithoutGround 3 = .ok (.iconst 4, 1) := dk_7 (dk_at dksX11_endsWithoutGround_0 3 rfl rfl)
theorem dX11_endsWithoutGround_4 : decode cX11_endsWithoutGround 4 = .ok (.if_icmp .ge 20, 3) := dk_162 0 20 (dk_at dksX11_endsWithoutGround_0 4 rfl rfl)
theorem dX11_endsWithoutGround_7 : decode cX11_endsWithoutGround 7 = .ok (.aload_n 0, 1) := dk_42 (dk_at dksX11_endsWithoutGround_0 7 rfl rfl)
theorem dX11_endsWithoutGround_8 : decode cX11_endsWithoutGround 8 = .ok (.getfield 111, 3) := dk_180 0 111 (dk_at dksX11_endsWithoutGround_0 8 rfl rfl)
theorem dX11_endsWithoutGround_11 : decode cX11_endsWithoutGround 11 = .ok (.sipush 192, 3) := dk_17 0 192 (dk_at dksX11_endsWithoutGround_0 11 rfl rfl)
theorem dX11_endsWithoutGround_14 : decode cX11_endsWithoutGround 14 = .ok (.iload_n 1, 1) := dk_27 (dk_at dksX11_endsWithoutGround_0 14 rfl rfl)
theorem dX11_endsWithoutGround_15 : decode cX11_endsWithoutGround 15 = .ok (.iadd, 1) := dk_96 (dk_at dksX11_endsWithoutGround_0 15 rfl rfl)
theorem dX11_endsWithoutGround_16 : decode cX11_endsWithoutGround 16 = .ok (.iconst (-1), 1) := dk_2 (dk_at dksX11_endsWithoutGround_0 16 rfl rfl)
theorem dX11_endsWithoutGround_17 : decode cX11_endsWithoutGround 17 = .ok (.iastore, 1) := dk_79 (dk_at dksX11_endsWithoutGround_0 17 rfl rfl)
theorem dX11_endsWithoutGround_18 : decode cX11_endsWithoutGround 18 = .ok (.iinc 1 1, 3) := dk_132 1 1 (dk_at dksX11_endsWithoutGround_0 18 rfl rfl)
theorem dX11_endsWithoutGround_21 : decode cX11_endsWithoutGround 21 = .ok (.goto (-19), 3) := dk_167 255 237 (dk_at dksX11_endsWithoutGround_0 21 rfl rfl)
theorem dX11_endsWithoutGround_24 : decode cX11_endsWithoutGround 24 = .ok (.aload_n 0, 1) := dk_42 (dk_at dksX11_endsWithoutGround_1 0 rfl rfl)
theorem dX11_endsWithoutGround_25 : decode cX11_endsWithoutGround 25 = .ok (.getfield 111, 3) := dk_180 0 111 (dk_at dksX11_endsWithoutGround_1 1 rfl rfl)
theorem dX11_endsWithoutGround_28 : decode cX11_endsWithoutGround 28 = .ok (.iconst 5, 1) := dk_8 (dk_at dksX11_endsWithoutGround_1 4 rfl rfl)
theorem dX11_endsWithoutGround_29 : decode cX11_endsWithoutGround 29 = .ok (.iconst 0, 1) := dk_3 (dk_at dksX11_endsWithoutGround_1 5 rfl rfl)
theorem dX11_endsWithoutGround_30 : decode cX11_endsWithoutGround 30 = .ok (.iastore, 1) := dk_79 (dk_at dksX11_endsWithoutGround_1 6 rfl rfl)
theorem dX11_endsWithoutGround_31 : decode cX11_endsWithoutGround 31 = .ok (.aload_n 0, 1) := dk_42 (dk_at dksX11_endsWithoutGround_1 7 rfl rfl)
theorem dX11_endsWithoutGround_32 : decode cX11_endsWithoutGround 32 = .ok (.getfield 111, 3) := dk_180 0 111 (dk_at dksX11_endsWithoutGround_1 8 rfl rfl)
theorem dX11_endsWithoutGround_35 : decode cX11_endsWithoutGround 35 = .ok (.bipush 6, 2) := dk_16 6 (dk_at dksX11_endsWithoutGround_1 11 rfl rfl)
theorem dX11_endsWithoutGround_37 : decode cX11_endsWithoutGround 37 = .ok (.iconst 5, 1) := dk_8 (dk_at dksX11_endsWithoutGround_1 13 rfl rfl)
theorem dX11_endsWithoutGround_38 : decode cX11_endsWithoutGround 38 = .ok (.iastore, 1) := dk_79 (dk_at dksX11_endsWithoutGround_1 14 rfl rfl)
theorem dX11_endsWithoutGround_39 : decode cX11_endsWithoutGround 39 = .ok (.aload_n 0, 1) := dk_42 (dk_at dksX11_endsWithoutGround_1 15 rfl rfl)
theorem dX11_endsWithoutGround_40 : decode cX11_endsWithoutGround 40 = .ok (.getfield 111, 3) := dk_180 0 111 (dk_at dksX11_endsWithoutGround_1 16 rfl rfl)
theorem dX11_endsWithoutGround_43 : decode cX11_endsWithoutGround 43 = .ok (.bipush 7, 2) := dk_16 7 (dk_at dksX11_endsWithoutGround_1 19 rfl rfl)
theorem dX11_endsWithoutGround_45 : decode cX11_endsWithoutGround 45 = .ok (.iconst 0, 1) := dk_3 (dk_at dksX11_endsWithoutGround_1 21 rfl rfl)
theorem dX11_endsWithoutGround_46 : decode cX11_endsWithoutGround 46 = .ok (.iastore, 1) := dk_79 (dk_at dksX11_endsWithoutGround_1 22 rfl rfl)
theorem dX11_endsWithoutGround_47 : decode cX11_endsWithoutGround 47 = .ok (.aload_n 0, 1) := dk_42 (dk_at dksX11_endsWithoutGround_1 23 rfl rfl)
theorem dX11_endsWithoutGround_48 : decode cX11_endsWithoutGround 48 = .ok (.getfield 111, 3) := dk_180 0 111 (dk_at dksX11_endsWithoutGround_2 0 rfl rfl)
theorem dX11_endsWithoutGround_51 : decode cX11_endsWithoutGround 51 = .ok (.bipush 10, 2) := dk_16 10 (dk_at dksX11_endsWithoutGround_2 3 rfl rfl)
theorem dX11_endsWithoutGround_53 : decode cX11_endsWithoutGround 53 = .ok (.iconst 1, 1) := dk_4 (dk_at dksX11_endsWithoutGround_2 5 rfl rfl)
theorem dX11_endsWithoutGround_54 : decode cX11_endsWithoutGround 54 = .ok (.iastore, 1) := dk_79 (dk_at dksX11_endsWithoutGround_2 6 rfl rfl)
theorem dX11_endsWithoutGround_55 : decode cX11_endsWithoutGround 55 = .ok (.aload_n 0, 1) := dk_42 (dk_at dksX11_endsWithoutGround_2 7 rfl rfl)
theorem dX11_endsWithoutGround_56 : decode cX11_endsWithoutGround 56 = .ok (.getfield 111, 3) := dk_180 0 111 (dk_at dksX11_endsWithoutGround_2 8 rfl rfl)
theorem dX11_endsWithoutGround_59 : decode cX11_endsWithoutGround 59 = .ok (.iconst 1, 1) := dk_4 (dk_at dksX11_endsWithoutGround_2 11 rfl rfl)
theorem dX11_endsWithoutGround_60 : decode cX11_endsWithoutGround 60 = .ok (.aload_n 0, 1) := dk_42 (dk_at dksX11_endsWithoutGround_2 12 rfl rfl)
theorem dX11_endsWithoutGround_61 : decode cX11_endsWithoutGround 61 = .ok (.getfield 111, 3) := dk_180 0 111 (dk_at dksX11_endsWithoutGround_2 13 rfl rfl)
theorem dX11_endsWithoutGround_64 : decode cX11_endsWithoutGround 64 = .ok (.bipush 9, 2) := dk_16 9 (dk_at dksX11_endsWithoutGround_2 16 rfl rfl)
theorem dX11_endsWithoutGround_66 : decode cX11_endsWithoutGround 66 = .ok (.iaload, 1) := dk_46 (dk_at dksX11_endsWithoutGround_2 18 rfl rfl)
theorem dX11_endsWithoutGround_67 : decode cX11_endsWithoutGround 67 = .ok (.iastore, 1) := dk_79 (dk_at dksX11_endsWithoutGround_2 19 rfl rfl)
theorem dX11_endsWithoutGround_68 : decode cX11_endsWithoutGround 68 = .ok (.aload_n 0, 1) := dk_42 (dk_at dksX11_endsWithoutGround_2 20 rfl rfl)
theorem dX11_endsWithoutGround_69 : decode cX11_endsWithoutGround 69 = .ok (.getfield 111, 3) := dk_180 0 111 (dk_at dksX11_endsWithoutGround_2 21 rfl rfl)
theorem dX11_endsWithoutGround_72 : decode cX11_endsWithoutGround 72 = .ok (.iconst 2, 1) := dk_5 (dk_at dksX11_endsWithoutGround_3 0 rfl rfl)
theorem dX11_endsWithoutGround_73 : decode cX11_endsWithoutGround 73 = .ok (.aload_n 0, 1) := dk_42 (dk_at dksX11_endsWithoutGround_3 1 rfl rfl)
theorem dX11_endsWithoutGround_74 : decode cX11_endsWithoutGround 74 = .ok (.getfield 111, 3) := dk_180 0 111 (dk_at dksX11_endsWithoutGround_3 2 rfl rfl)
theorem dX11_endsWithoutGround_77 : decode cX11_endsWithoutGround 77 = .ok (.bipush 9, 2) := dk_16 9 (dk_at dksX11_endsWithoutGround_3 5 rfl rfl)
theorem dX11_endsWithoutGround_79 : decode cX11_endsWithoutGround 79 = .ok (.iaload, 1) := dk_46 (dk_at dksX11_endsWithoutGround_3 7 rfl rfl)
theorem dX11_endsWithoutGround_80 : decode cX11_endsWithoutGround 80 = .ok (.iastore, 1) := dk_79 (dk_at dksX11_endsWithoutGround_3 8 rfl rfl)
theorem dX11_endsWithoutGround_81 : decode cX11_endsWithoutGround 81 = .ok (.return_, 1) := dk_177 (dk_at dksX11_endsWithoutGround_3 9 rfl rfl)
abbrev cX11_isDamaged : ByteArray := prog_26_method_74_code
def yX11_isDamaged : MethodName := ⟨RX11, "isDamaged", "(I)Z"⟩
def dkwX11_isDamaged_3 : List UInt8 := [132, 2, 1, 167, 255, 215, 3, 172]
abbrev dktX11_isDamaged_3 : List UInt8 := dkwX11_isDamaged_3 ++ []
def dkwX11_isDamaged_2 : List UInt8 := [153, 0, 24, 42, 27, 28, 4, 96, 182, 1, 238, 133, 10, 20, 2, 35, 184, 1, 19, 153, 0, 5, 4, 172]
abbrev dktX11_isDamaged_2 : List UInt8 := dkwX11_isDamaged_2 ++ dktX11_isDamaged_3
def dkwX11_isDamaged_1 : List UInt8 := [167, 255, 234, 42, 180, 2, 7, 4, 96, 61, 28, 42, 182, 1, 146, 162, 0, 39, 42, 27, 28, 182, 2, 10]
abbrev dktX11_isDamaged_1 : List UInt8 := dkwX11_isDamaged_1 ++ dktX11_isDamaged_2
def dkwX11_isDamaged_0 : List UInt8 := [3, 61, 28, 42, 182, 1, 104, 162, 0, 20, 42, 28, 27, 182, 2, 32, 153, 0, 5, 4, 172, 132, 2, 1]
abbrev dktX11_isDamaged_0 : List UInt8 := dkwX11_isDamaged_0 ++ dktX11_isDamaged_1
theorem dksX11_isDamaged_0 : cX11_isDamaged.data.toList.drop 0 = dktX11_isDamaged_0 := by decide +kernel
theorem dksX11_isDamaged_1 : cX11_isDamaged.data.toList.drop 24 = dktX11_isDamaged_1 := dk_seg dksX11_isDamaged_0 24 rfl rfl
theorem dksX11_isDamaged_2 : cX11_isDamaged.data.toList.drop 48 = dktX11_isDamaged_2 := dk_seg dksX11_isDamaged_1 24 rfl rfl
theorem dksX11_isDamaged_3 : cX11_isDamaged.data.toList.drop 72 = dktX11_isDamaged_3 := dk_seg dksX11_isDamaged_2 24 rfl rfl
theorem dX11_isDamaged_0 : decode cX11_isDamaged 0 = .ok (.iconst 0, 1) := dk_3 (dk_at dksX11_isDamaged_0 0 rfl rfl)
theorem dX11_isDamaged_1 : decode cX11_isDamaged 1 = .ok (.istore_n 2, 1) := dk_61 (dk_at dksX11_isDamaged_0 1 rfl rfl)
theorem dX11_isDamaged_2 : decode cX11_isDamaged 2 = .ok (.iload_n 2, 1) := dk_28 (dk_at dksX11_isDamaged_0 2 rfl rfl)
theorem dX11_isDamaged_3 : decode cX11_isDamaged 3 = .ok (.aload_n 0, 1) := dk_42 (dk_at dksX11_isDamaged_0 3 rfl rfl)
theorem dX11_isDamaged_4 : decode cX11_isDamaged 4 = .ok (.invokevirtual 360, 3) := dk_182 1 104 (dk_at dksX11_isDamaged_0 4 rfl rfl)
theorem dX11_isDamaged_7 : decode cX11_isDamaged 7 = .ok (.if_icmp .ge 20, 3) := dk_162 0 20 (dk_at dksX11_isDamaged_0 7 rfl rfl)
theorem dX11_isDamaged_10 : decode cX11_isDamaged 10 = .ok (.aload_n 0, 1) := dk_42 (dk_at dksX11_isDamaged_0 10 rfl rfl)
theorem dX11_isDamaged_11 : decode cX11_isDamaged 11 = .ok (.iload_n 2, 1) := dk_28 (dk_at dksX11_isDamaged_0 11 rfl rfl)
theorem dX11_isDamaged_12 : decode cX11_isDamaged 12 = .ok (.iload_n 1, 1) := dk_27 (dk_at dksX11_isDamaged_0 12 rfl rfl)
theorem dX11_isDamaged_13 : decode cX11_isDamaged 13 = .ok (.invokevirtual 544, 3) := dk_182 2 32 (dk_at dksX11_isDamaged_0 13 rfl rfl)
theorem dX11_isDamaged_16 : decode cX11_isDamaged 16 = .ok (.ifCond .eq 5, 3) := dk_153 0 5 (dk_at dksX11_isDamaged_0 16 rfl rfl)
theorem dX11_isDamaged_19 : decode cX11_isDamaged 19 = .ok (.iconst 1, 1) := dk_4 (dk_at dksX11_isDamaged_0 19 rfl rfl)
theorem dX11_isDamaged_20 : decode cX11_isDamaged 20 = .ok (.ireturn, 1) := dk_172 (dk_at dksX11_isDamaged_0 20 rfl rfl)
theorem dX11_isDamaged_21 : decode cX11_isDamaged 21 = .ok (.iinc 2 1, 3) := dk_132 2 1 (dk_at dksX11_isDamaged_0 21 rfl rfl)
theorem dX11_isDamaged_24 : decode cX11_isDamaged 24 = .ok (.goto (-22), 3) := dk_167 255 234 (dk_at dksX11_isDamaged_1 0 rfl rfl)
theorem dX11_isDamaged_27 : decode cX11_isDamaged 27 = .ok (.aload_n 0, 1) := dk_42 (dk_at dksX11_isDamaged_1 3 rfl rfl)
theorem dX11_isDamaged_28 : decode cX11_isDamaged 28 = .ok (.getfield 519, 3) := dk_180 2 7 (dk_at dksX11_isDamaged_1 4 rfl rfl)
theorem dX11_isDamaged_31 : decode cX11_isDamaged 31 = .ok (.iconst 1, 1) := dk_4 (dk_at dksX11_isDamaged_1 7 rfl rfl)
theorem dX11_isDamaged_32 : decode cX11_isDamaged 32 = .ok (.iadd, 1) := dk_96 (dk_at dksX11_isDamaged_1 8 rfl rfl)
theorem dX11_isDamaged_33 : decode cX11_isDamaged 33 = .ok (.istore_n 2, 1) := dk_61 (dk_at dksX11_isDamaged_1 9 rfl rfl)
theorem dX11_isDamaged_34 : decode cX11_isDamaged 34 = .ok (.iload_n 2, 1) := dk_28 (dk_at dksX11_isDamaged_1 10 rfl rfl)
theorem dX11_isDamaged_35 : decode cX11_isDamaged 35 = .ok (.aload_n 0, 1) := dk_42 (dk_at dksX11_isDamaged_1 11 rfl rfl)
theorem dX11_isDamaged_36 : decode cX11_isDamaged 36 = .ok (.invokevirtual 402, 3) := dk_182 1 146 (dk_at dksX11_isDamaged_1 12 rfl rfl)
theorem dX11_isDamaged_39 : decode cX11_isDamaged 39 = .ok (.if_icmp .ge 39, 3) := dk_162 0 39 (dk_at dksX11_isDamaged_1 15 rfl rfl)
theorem dX11_isDamaged_42 : decode cX11_isDamaged 42 = .ok (.aload_n 0, 1) := dk_42 (dk_at dksX11_isDamaged_1 18 rfl rfl)
theorem dX11_isDamaged_43 : decode cX11_isDamaged 43 = .ok (.iload_n 1, 1) := dk_27 (dk_at dksX11_isDamaged_1 19 rfl rfl)
theorem dX11_isDamaged_44 : decode cX11_isDamaged 44 = .ok (.iload_n 2, 1) := dk_28 (dk_at dksX11_isDamaged_1 20 rfl rfl)
theorem dX11_isDamaged_45 : decode cX11_isDamaged 45 = .ok (.invokevirtual 522, 3) := dk_182 2 10 (dk_at dksX11_isDamaged_1 21 rfl rfl)
theorem dX11_isDamaged_48 : decode cX11_isDamaged 48 = .ok (.ifCond .eq 24, 3) := dk_153 0 24 (dk_at dksX11_isDamaged_2 0 rfl rfl)
theorem dX11_isDamaged_51 : decode cX11_isDamaged 51 = .ok (.aload_n 0, 1) := dk_42 (dk_at dksX11_isDamaged_2 3 rfl rfl)
theorem dX11_isDamaged_52 : decode cX11_isDamaged 52 = .ok (.iload_n 1, 1) := dk_27 (dk_at dksX11_isDamaged_2 4 rfl rfl)
theorem dX11_isDamaged_53 : decode cX11_isDamaged 53 = .ok (.iload_n 2, 1) := dk_28 (dk_at dksX11_isDamaged_2 5 rfl rfl)
theorem dX11_isDamaged_54 : decode cX11_isDamaged 54 = .ok (.iconst 1, 1) := dk_4 (dk_at dksX11_isDamaged_2 6 rfl rfl)
theorem dX11_isDamaged_55 : decode cX11_isDamaged 55 = .ok (.iadd, 1) := dk_96 (dk_at dksX11_isDamaged_2 7 rfl rfl)
theorem dX11_isDamaged_56 : decode cX11_isDamaged 56 = .ok (.invokevirtual 494, 3) := dk_182 1 238 (dk_at dksX11_isDamaged_2 8 rfl rfl)
theorem dX11_isDamaged_59 : decode cX11_isDamaged 59 = .ok (.i2l, 1) := dk_133 (dk_at dksX11_isDamaged_2 11 rfl rfl)
theorem dX11_isDamaged_60 : decode cX11_isDamaged 60 = .ok (.lconst 1, 1) := dk_10 (dk_at dksX11_isDamaged_2 12 rfl rfl)
theorem dX11_isDamaged_61 : decode cX11_isDamaged 61 = .ok (.ldc2_w 547, 3) := dk_20 2 35 (dk_at dksX11_isDamaged_2 13 rfl rfl)
theorem dX11_isDamaged_64 : decode cX11_isDamaged 64 = .ok (.invokestatic 275, 3) := dk_184 1 19 (dk_at dksX11_isDamaged_2 16 rfl rfl)
theorem dX11_isDamaged_67 : decode cX11_isDamaged 67 = .ok (.ifCond .eq 5, 3) := dk_153 0 5 (dk_at dksX11_isDamaged_2 19 rfl rfl)
theorem dX11_isDamaged_70 : decode cX11_isDamaged 70 = .ok (.iconst 1, 1) := dk_4 (dk_at dksX11_isDamaged_2 22 rfl rfl)
theorem dX11_isDamaged_71 : decode cX11_isDamaged 71 = .ok (.ireturn, 1) := dk_172 (dk_at dksX11_isDamaged_2 23 rfl rfl)
theorem dX11_isDamaged_72 : decode cX11_isDamaged 72 = .ok (.iinc 2 1, 3) := dk_132 2 1 (dk_at dksX11_isDamaged_3 0 rfl rfl)
theorem dX11_isDamaged_75 : decode cX11_isDamaged 75 = .ok (.goto (-41), 3) := dk_167 255 215 (dk_at dksX11_isDamaged_3 3 rfl rfl)
theorem dX11_isDamaged_78 : decode cX11_isDamaged 78 = .ok (.iconst 0, 1) := dk_3 (dk_at dksX11_isDamaged_3 6 rfl rfl)
theorem dX11_isDamaged_79 : decode cX11_isDamaged 79 = .ok (.ireturn, 1) := dk_172 (dk_at dksX11_isDamaged_3 7 rfl rfl)
abbrev cX11_zeroes : ByteArray := prog_26_method_75_code
def yX11_zeroes : MethodName := ⟨RX11, "zeroes", "(II)I"⟩
def dkwX11_zeroes_1 : List UInt8 := [132, 3, 1, 42, 17, 0, 128, 27, 104, 21, 4, 96, 3, 182, 1, 137, 132, 4, 1, 167, 255, 218, 29, 172]
abbrev dktX11_zeroes_1 : List UInt8 := dkwX11_zeroes_1 ++ []
def dkwX11_zeroes_0 : List UInt8 := [3, 62, 28, 54, 4, 21, 4, 42, 182, 1, 146, 162, 0, 35, 42, 27, 21, 4, 182, 1, 238, 153, 0, 6]
abbrev dktX11_zeroes_0 : List UInt8 := dkwX11_zeroes_0 ++ dktX11_zeroes_1
theorem dksX11_zeroes_0 : cX11_zeroes.data.toList.drop 0 = dktX11_zeroes_0 := by decide +kernel
theorem dksX11_zeroes_1 : cX11_zeroes.data.toList.drop 24 = dktX11_zeroes_1 := dk_seg dksX11_zeroes_0 24 rfl rfl
theorem dX11_zeroes_0 : decode cX11_zeroes 0 = .ok (.iconst 0, 1) := dk_3 (dk_at dksX11_zeroes_0 0 rfl rfl)
theorem dX11_zeroes_1 : decode cX11_zeroes 1 = .ok (.istore_n 3, 1) := dk_62 (dk_at dksX11_zeroes_0 1 rfl rfl)
theorem dX11_zeroes_2 : decode cX11_zeroes 2 = .ok (.iload_n 2, 1) := dk_28 (dk_at dksX11_zeroes_0 2 rfl rfl)
theorem dX11_zeroes_3 : decode cX11_zeroes 3 = .ok (.istore 4, 2) := dk_54 4 (dk_at dksX11_zeroes_0 3 rfl rfl)
theorem dX11_zeroes_5 : decode cX11_zeroes 5 = .ok (.iload 4, 2) := dk_21 4 (dk_at dksX11_zeroes_0 5 rfl rfl)
theorem dX11_zeroes_7 : decode cX11_zeroes 7 = .ok (.aload_n 0, 1) := dk_42 (dk_at dksX11_zeroes_0 7 rfl rfl)
theorem dX11_zeroes_8 : decode cX11_zeroes 8 = .ok (.invokevirtual 402, 3) := dk_182 1 146 (dk_at dksX11_zeroes_0 8 rfl rfl)
theorem dX11_zeroes_11 : decode cX11_zeroes 11 = .ok (.if_icmp .ge 35, 3) := dk_162 0 35 (dk_at dksX11_zeroes_0 11 rfl rfl)
theorem dX11_zeroes_14 : decode cX11_zeroes 14 = .ok (.aload_n 0, 1) := dk_42 (dk_at dksX11_zeroes_0 14 rfl rfl)
theorem dX11_zeroes_15 : decode cX11_zeroes 15 = .ok (.iload_n 1, 1) := dk_27 (dk_at dksX11_zeroes_0 15 rfl rfl)
theorem dX11_zeroes_16 : decode cX11_zeroes 16 = .ok (.iload 4, 2) := dk_21 4 (dk_at dksX11_zeroes_0 16 rfl rfl)
theorem dX11_zeroes_18 : decode cX11_zeroes 18 = .ok (.invokevirtual 494, 3) := dk_182 1 238 (dk_at dksX11_zeroes_0 18 rfl rfl)
theorem dX11_zeroes_21 : decode cX11_zeroes 21 = .ok (.ifCond .eq 6, 3) := dk_153 0 6 (dk_at dksX11_zeroes_0 21 rfl rfl)
theorem dX11_zeroes_24 : decode cX11_zeroes 24 = .ok (.iinc 3 1, 3) := dk_132 3 1 (dk_at dksX11_zeroes_1 0 rfl rfl)
theorem dX11_zeroes_27 : decode cX11_zeroes 27 = .ok (.aload_n 0, 1) := dk_42 (dk_at dksX11_zeroes_1 3 rfl rfl)
theorem dX11_zeroes_28 : decode cX11_zeroes 28 = .ok (.sipush 128, 3) := dk_17 0 128 (dk_at dksX11_zeroes_1 4 rfl rfl)
theorem dX11_zeroes_31 : decode cX11_zeroes 31 = .ok (.iload_n 1, 1) := dk_27 (dk_at dksX11_zeroes_1 7 rfl rfl)
theorem dX11_zeroes_32 : decode cX11_zeroes 32 = .ok (.imul, 1) := dk_104 (dk_at dksX11_zeroes_1 8 rfl rfl)
theorem dX11_zeroes_33 : decode cX11_zeroes 33 = .ok (.iload 4, 2) := dk_21 4 (dk_at dksX11_zeroes_1 9 rfl rfl)
theorem dX11_zeroes_35 : decode cX11_zeroes 35 = .ok (.iadd, 1) := dk_96 (dk_at dksX11_zeroes_1 11 rfl rfl)
theorem dX11_zeroes_36 : decode cX11_zeroes 36 = .ok (.iconst 0, 1) := dk_3 (dk_at dksX11_zeroes_1 12 rfl rfl)
theorem dX11_zeroes_37 : decode cX11_zeroes 37 = .ok (.invokevirtual 393, 3) := dk_182 1 137 (dk_at dksX11_zeroes_1 13 rfl rfl)
theorem dX11_zeroes_40 : decode cX11_zeroes 40 = .ok (.iinc 4 1, 3) := dk_132 4 1 (dk_at dksX11_zeroes_1 16 rfl rfl)
theorem dX11_zeroes_43 : decode cX11_zeroes 43 = .ok (.goto (-38), 3) := dk_167 255 218 (dk_at dksX11_zeroes_1 19 rfl rfl)
theorem dX11_zeroes_46 : decode cX11_zeroes 46 = .ok (.iload_n 3, 1) := dk_29 (dk_at dksX11_zeroes_1 22 rfl rfl)
theorem dX11_zeroes_47 : decode cX11_zeroes 47 = .ok (.ireturn, 1) := dk_172 (dk_at dksX11_zeroes_1 23 rfl rfl)
abbrev cX11_keyMany : ByteArray := prog_26_method_97_code
def yX11_keyMany : MethodName := ⟨RX11, "keyMany", "()I"⟩
def dkwX11_keyMany_1 : List UInt8 := [132, 1, 1, 132, 2, 1, 167, 255, 230, 27, 172]
abbrev dktX11_keyMany_1 : List UInt8 := dkwX11_keyMany_1 ++ []
def dkwX11_keyMany_0 : List UInt8 := [3, 60, 3, 61, 28, 16, 16, 162, 0, 26, 42, 180, 0, 111, 17, 0, 144, 28, 96, 46, 2, 159, 0, 6]
abbrev dktX11_keyMany_0 : List UInt8 := dkwX11_keyMany_0 ++ dktX11_keyMany_1
theorem dksX11_keyMany_0 : cX11_keyMany.data.toList.drop 0 = dktX11_keyMany_0 := by decide +kernel
theorem dksX11_keyMany_1 : cX11_keyMany.data.toList.drop 24 = dktX11_keyMany_1 := dk_seg dksX11_keyMany_0 24 rfl rfl
theorem dX11_keyMany_0 : decode cX11_keyMany 0 = .ok (.iconst 0, 1) := dk_3 (dk_at dksX11_keyMany_0 0 rfl rfl)
theorem dX11_keyMany_1 : decode cX11_keyMany 1 = .ok (.istore_n 1, 1) := dk_60 (dk_at dksX11_keyMany_0 1 rfl rfl)
theorem dX11_keyMany_2 : decode cX11_keyMany 2 = .ok (.iconst 0, 1) := dk_3 (dk_at dksX11_keyMany_0 2 rfl rfl)
theorem dX11_keyMany_3 : decode cX11_keyMany 3 = .ok (.istore_n 2, 1) := dk_61 (dk_at dksX11_keyMany_0 3 rfl rfl)
theorem dX11_keyMany_4 : decode cX11_keyMany 4 = .ok (.iload_n 2, 1) := dk_28 (dk_at dksX11_keyMany_0 4 rfl rfl)
theorem dX11_keyMany_5 : decode cX11_keyMany 5 = .ok (.bipush 16, 2) := dk_16 16 (dk_at dksX11_keyMany_0 5 rfl rfl)
theorem dX11_keyMany_7 : decode cX11_keyMany 7 = .ok (.if_icmp .ge 26, 3) := dk_162 0 26 (dk_at dksX11_keyMany_0 7 rfl rfl)
theorem dX11_keyMany_10 : decode cX11_keyMany 10 = .ok (.aload_n 0, 1) := dk_42 (dk_at dksX11_keyMany_0 10 rfl rfl)
theorem dX11_keyMany_11 : decode cX11_keyMany 11 = .ok (.getfield 111, 3) := dk_180 0 111 (dk_at dksX11_keyMany_0 11 rfl rfl)
theorem dX11_keyMany_14 : decode cX11_keyMany 14 = .ok (.sipush 144, 3) := dk_17 0 144 (dk_at dksX11_keyMany_0 14 rfl rfl)
theorem dX11_keyMany_17 : decode cX11_keyMany 17 = .ok (.iload_n 2, 1) := dk_28 (dk_at dksX11_keyMany_0 17 rfl rfl)
theorem dX11_keyMany_18 : decode cX11_keyMany 18 = .ok (.iadd, 1) := dk_96 (dk_at dksX11_keyMany_0 18 rfl rfl)
theorem dX11_keyMany_19 : decode cX11_keyMany 19 = .ok (.iaload, 1) := dk_46 (dk_at dksX11_keyMany_0 19 rfl rfl)
theorem dX11_keyMany_20 : decode cX11_keyMany 20 = .ok (.iconst (-1), 1) := dk_2 (dk_at dksX11_keyMany_0 20 rfl rfl)
theorem dX11_keyMany_21 : decode cX11_keyMany 21 = .ok (.if_icmp .eq 6, 3) := dk_159 0 6 (dk_at dksX11_keyMany_0 21 rfl rfl)
theorem dX11_keyMany_24 : decode cX11_keyMany 24 = .ok (.iinc 1 1, 3) := dk_132 1 1 (dk_at dksX11_keyMany_1 0 rfl rfl)
theorem dX11_keyMany_27 : decode cX11_keyMany 27 = .ok (.iinc 2 1, 3) := dk_132 2 1 (dk_at dksX11_keyMany_1 3 rfl rfl)
theorem dX11_keyMany_30 : decode cX11_keyMany 30 = .ok (.goto (-26), 3) := dk_167 255 230 (dk_at dksX11_keyMany_1 6 rfl rfl)
theorem dX11_keyMany_33 : decode cX11_keyMany 33 = .ok (.iload_n 1, 1) := dk_27 (dk_at dksX11_keyMany_1 9 rfl rfl)
theorem dX11_keyMany_34 : decode cX11_keyMany 34 = .ok (.ireturn, 1) := dk_172 (dk_at dksX11_keyMany_1 10 rfl rfl)
abbrev cX11_flips : ByteArray := prog_26_method_100_code
def yX11_flips : MethodName := ⟨RX11, "flips", "(I)I"⟩
def dkwX11_flips_6 : List UInt8 := [167, 255, 163, 42, 182, 2, 85, 28, 172]
abbrev dktX11_flips_6 : List UInt8 := dkwX11_flips_6 ++ []
def dkwX11_flips_5 : List UInt8 := [21, 6, 27, 160, 0, 6, 132, 2, 1, 42, 182, 1, 235, 132, 5, 1, 167, 255, 181, 132, 4, 1]
abbrev dktX11_flips_5 : List UInt8 := dkwX11_flips_5 ++ dktX11_flips_6
def dkwX11_flips_4 : List UInt8 := [160, 0, 7, 3, 167, 0, 18, 42, 180, 0, 111, 4, 46, 29, 162, 0, 7, 4, 167, 0, 4, 5, 54, 6]
abbrev dktX11_flips_4 : List UInt8 := dkwX11_flips_4 ++ dktX11_flips_5
def dkwX11_flips_3 : List UInt8 := [21, 4, 104, 21, 5, 96, 182, 2, 107, 42, 3, 182, 2, 101, 42, 180, 0, 111, 16, 10, 46, 4]
abbrev dktX11_flips_3 : List UInt8 := dkwX11_flips_3 ++ dktX11_flips_4
def dkwX11_flips_2 : List UInt8 := [42, 182, 1, 104, 162, 0, 90, 3, 54, 5, 21, 5, 42, 182, 1, 146, 162, 0, 72, 42, 17, 0, 128]
abbrev dktX11_flips_2 : List UInt8 := dkwX11_flips_2 ++ dktX11_flips_3
def dkwX11_flips_1 : List UInt8 := [182, 2, 79, 42, 3, 182, 2, 101, 42, 180, 0, 111, 4, 46, 62, 42, 182, 1, 235, 3, 54, 4, 21, 4]
abbrev dktX11_flips_1 : List UInt8 := dkwX11_flips_1 ++ dktX11_flips_2
def dkwX11_flips_0 : List UInt8 := [42, 180, 1, 84, 153, 0, 15, 27, 133, 9, 20, 2, 64, 184, 1, 19, 154, 0, 5, 2, 172, 3, 61, 42]
abbrev dktX11_flips_0 : List UInt8 := dkwX11_flips_0 ++ dktX11_flips_1
theorem dksX11_flips_0 : cX11_flips.data.toList.drop 0 = dktX11_flips_0 := by decide +kernel
theorem dksX11_flips_1 : cX11_flips.data.toList.drop 24 = dktX11_flips_1 := dk_seg dksX11_flips_0 24 rfl rfl
theorem dksX11_flips_2 : cX11_flips.data.toList.drop 48 = dktX11_flips_2 := dk_seg dksX11_flips_1 24 rfl rfl
theorem dksX11_flips_3 : cX11_flips.data.toList.drop 71 = dktX11_flips_3 := dk_seg dksX11_flips_2 23 rfl rfl
theorem dksX11_flips_4 : cX11_flips.data.toList.drop 93 = dktX11_flips_4 := dk_seg dksX11_flips_3 22 rfl rfl
theorem dksX11_flips_5 : cX11_flips.data.toList.drop 117 = dktX11_flips_5 := dk_seg dksX11_flips_4 24 rfl rfl
theorem dksX11_flips_6 : cX11_flips.data.toList.drop 139 = dktX11_flips_6 := dk_seg dksX11_flips_5 22 rfl rfl
theorem dX11_flips_0 : decode cX11_flips 0 = .ok (.aload_n 0, 1) := dk_42 (dk_at dksX11_flips_0 0 rfl rfl)
theorem dX11_flips_1 : decode cX11_flips 1 = .ok (.getfield 340, 3) := dk_180 1 84 (dk_at dksX11_flips_0 1 rfl rfl)
theorem dX11_flips_4 : decode cX11_flips 4 = .ok (.ifCond .eq 15, 3) := dk_153 0 15 (dk_at dksX11_flips_0 4 rfl rfl)
theorem dX11_flips_7 : decode cX11_flips 7 = .ok (.iload_n 1, 1) := dk_27 (dk_at dksX11_flips_0 7 rfl rfl)
theorem dX11_flips_8 : decode cX11_flips 8 = .ok (.i2l, 1) := dk_133 (dk_at dksX11_flips_0 8 rfl rfl)
theorem dX11_flips_9 : decode cX11_flips 9 = .ok (.lconst 0, 1) := dk_9 (dk_at dksX11_flips_0 9 rfl rfl)
theorem dX11_flips_10 : decode cX11_flips 10 = .ok (.ldc2_w 576, 3) := dk_20 2 64 (dk_at dksX11_flips_0 10 rfl rfl)
theorem dX11_flips_13 : decode cX11_flips 13 = .ok (.invokestatic 275, 3) := dk_184 1 19 (dk_at dksX11_flips_0 13 rfl rfl)
theorem dX11_flips_16 : decode cX11_flips 16 = .ok (.ifCond .ne 5, 3) := dk_154 0 5 (dk_at dksX11_flips_0 16 rfl rfl)
theorem dX11_flips_19 : decode cX11_flips 19 = .ok (.iconst (-1), 1) := dk_2 (dk_at dksX11_flips_0 19 rfl rfl)
theorem dX11_flips_20 : decode cX11_flips 20 = .ok (.ireturn, 1) := dk_172 (dk_at dksX11_flips_0 20 rfl rfl)
theorem dX11_flips_21 : decode cX11_flips 21 = .ok (.iconst 0, 1) := dk_3 (dk_at dksX11_flips_0 21 rfl rfl)
theorem dX11_flips_22 : decode cX11_flips 22 = .ok (.istore_n 2, 1) := dk_61 (dk_at dksX11_flips_0 22 rfl rfl)
theorem dX11_flips_23 : decode cX11_flips 23 = .ok (.aload_n 0, 1) := dk_42 (dk_at dksX11_flips_0 23 rfl rfl)
theorem dX11_flips_24 : decode cX11_flips 24 = .ok (.invokevirtual 591, 3) := dk_182 2 79 (dk_at dksX11_flips_1 0 rfl rfl)
theorem dX11_flips_27 : decode cX11_flips 27 = .ok (.aload_n 0, 1) := dk_42 (dk_at dksX11_flips_1 3 rfl rfl)
theorem dX11_flips_28 : decode cX11_flips 28 = .ok (.iconst 0, 1) := dk_3 (dk_at dksX11_flips_1 4 rfl rfl)
theorem dX11_flips_29 : decode cX11_flips 29 = .ok (.invokevirtual 613, 3) := dk_182 2 101 (dk_at dksX11_flips_1 5 rfl rfl)
theorem dX11_flips_32 : decode cX11_flips 32 = .ok (.aload_n 0, 1) := dk_42 (dk_at dksX11_flips_1 8 rfl rfl)
theorem dX11_flips_33 : decode cX11_flips 33 = .ok (.getfield 111, 3) := dk_180 0 111 (dk_at dksX11_flips_1 9 rfl rfl)
theorem dX11_flips_36 : decode cX11_flips 36 = .ok (.iconst 1, 1) := dk_4 (dk_at dksX11_flips_1 12 rfl rfl)
theorem dX11_flips_37 : decode cX11_flips 37 = .ok (.iaload, 1) := dk_46 (dk_at dksX11_flips_1 13 rfl rfl)
theorem dX11_flips_38 : decode cX11_flips 38 = .ok (.istore_n 3, 1) := dk_62 (dk_at dksX11_flips_1 14 rfl rfl)
theorem dX11_flips_39 : decode cX11_flips 39 = .ok (.aload_n 0, 1) := dk_42 (dk_at dksX11_flips_1 15 rfl rfl)
theorem dX11_flips_40 : decode cX11_flips 40 = .ok (.invokevirtual 491, 3) := dk_182 1 235 (dk_at dksX11_flips_1 16 rfl rfl)
theorem dX11_flips_43 : decode cX11_flips 43 = .ok (.iconst 0, 1) := dk_3 (dk_at dksX11_flips_1 19 rfl rfl)
theorem dX11_flips_44 : decode cX11_flips 44 = .ok (.istore 4, 2) := dk_54 4 (dk_at dksX11_flips_1 20 rfl rfl)
theorem dX11_flips_46 : decode cX11_flips 46 = .ok (.iload 4, 2) := dk_21 4 (dk_at dksX11_flips_1 22 rfl rfl)
theorem dX11_flips_48 : decode cX11_flips 48 = .ok (.aload_n 0, 1) := dk_42 (dk_at dksX11_flips_2 0 rfl rfl)
theorem dX11_flips_49 : decode cX11_flips 49 = .ok (.invokevirtual 360, 3) := dk_182 1 104 (dk_at dksX11_flips_2 1 rfl rfl)
theorem dX11_flips_52 : decode cX11_flips 52 = .ok (.if_icmp .ge 90, 3) := dk_162 0 90 (dk_at dksX11_flips_2 4 rfl rfl)
theorem dX11_flips_55 : decode cX11_flips 55 = .ok (.iconst 0, 1) := dk_3 (dk_at dksX11_flips_2 7 rfl rfl)
theorem dX11_flips_56 : decode cX11_flips 56 = .ok (.istore 5, 2) := dk_54 5 (dk_at dksX11_flips_2 8 rfl rfl)
theorem dX11_flips_58 : decode cX11_flips 58 = .ok (.iload 5, 2) := dk_21 5 (dk_at dksX11_flips_2 10 rfl rfl)
theorem dX11_flips_60 : decode cX11_flips 60 = .ok (.aload_n 0, 1) := dk_42 (dk_at dksX11_flips_2 12 rfl rfl)
theorem dX11_flips_61 : decode cX11_flips 61 = .ok (.invokevirtual 402, 3) := dk_182 1 146 (dk_at dksX11_flips_2 13 rfl rfl)
theorem dX11_flips_64 : decode cX11_flips 64 = .ok (.if_icmp .ge 72, 3) := dk_162 0 72 (dk_at dksX11_flips_2 16 rfl rfl)
theorem dX11_flips_67 : decode cX11_flips 67 = .ok (.aload_n 0, 1) := dk_42 (dk_at dksX11_flips_2 19 rfl rfl)
theorem dX11_flips_68 : decode cX11_flips 68 = .ok (.sipush 128, 3) := dk_17 0 128 (dk_at dksX11_flips_2 20 rfl rfl)
theorem dX11_flips_71 : decode cX11_flips 71 = .ok (.iload 4, 2) := dk_21 4 (dk_at dksX11_flips_3 0 rfl rfl)
theorem dX11_flips_73 : decode cX11_flips 73 = .ok (.imul, 1) := dk_104 (dk_at dksX11_flips_3 2 rfl rfl)
theorem dX11_flips_74 : decode cX11_flips 74 = .ok (.iload 5, 2) := dk_21 5 (dk_at dksX11_flips_3 3 rfl rfl)
theorem dX11_flips_76 : decode cX11_flips 76 = .ok (.iadd, 1) := dk_96 (dk_at dksX11_flips_3 5 rfl rfl)
theorem dX11_flips_77 : decode cX11_flips 77 = .ok (.invokevirtual 619, 3) := dk_182 2 107 (dk_at dksX11_flips_3 6 rfl rfl)
theorem dX11_flips_80 : decode cX11_flips 80 = .ok (.aload_n 0, 1) := dk_42 (dk_at dksX11_flips_3 9 rfl rfl)
theorem dX11_flips_81 : decode cX11_flips 81 = .ok (.iconst 0, 1) := dk_3 (dk_at dksX11_flips_3 10 rfl rfl)
theorem dX11_flips_82 : decode cX11_flips 82 = .ok (.invokevirtual 613, 3) := dk_182 2 101 (dk_at dksX11_flips_3 11 rfl rfl)
theorem dX11_flips_85 : decode cX11_flips 85 = .ok (.aload_n 0, 1) := dk_42 (dk_at dksX11_flips_3 14 rfl rfl)
theorem dX11_flips_86 : decode cX11_flips 86 = .ok (.getfield 111, 3) := dk_180 0 111 (dk_at dksX11_flips_3 15 rfl rfl)
theorem dX11_flips_89 : decode cX11_flips 89 = .ok (.bipush 10, 2) := dk_16 10 (dk_at dksX11_flips_3 18 rfl rfl)
theorem dX11_flips_91 : decode cX11_flips 91 = .ok (.iaload, 1) := dk_46 (dk_at dksX11_flips_3 20 rfl rfl)
theorem dX11_flips_92 : decode cX11_flips 92 = .ok (.iconst 1, 1) := dk_4 (dk_at dksX11_flips_3 21 rfl rfl)
theorem dX11_flips_93 : decode cX11_flips 93 = .ok (.if_icmp .ne 7, 3) := dk_160 0 7 (dk_at dksX11_flips_4 0 rfl rfl)
theorem dX11_flips_96 : decode cX11_flips 96 = .ok (.iconst 0, 1) := dk_3 (dk_at dksX11_flips_4 3 rfl rfl)
theorem dX11_flips_97 : decode cX11_flips 97 = .ok (.goto 18, 3) := dk_167 0 18 (dk_at dksX11_flips_4 4 rfl rfl)
theorem dX11_flips_100 : decode cX11_flips 100 = .ok (.aload_n 0, 1) := dk_42 (dk_at dksX11_flips_4 7 rfl rfl)
theorem dX11_flips_101 : decode cX11_flips 101 = .ok (.getfield 111, 3) := dk_180 0 111 (dk_at dksX11_flips_4 8 rfl rfl)
theorem dX11_flips_104 : decode cX11_flips 104 = .ok (.iconst 1, 1) := dk_4 (dk_at dksX11_flips_4 11 rfl rfl)
theorem dX11_flips_105 : decode cX11_flips 105 = .ok (.iaload, 1) := dk_46 (dk_at dksX11_flips_4 12 rfl rfl)
theorem dX11_flips_106 : decode cX11_flips 106 = .ok (.iload_n 3, 1) := dk_29 (dk_at dksX11_flips_4 13 rfl rfl)
theorem dX11_flips_107 : decode cX11_flips 107 = .ok (.if_icmp .ge 7, 3) := dk_162 0 7 (dk_at dksX11_flips_4 14 rfl rfl)
theorem dX11_flips_110 : decode cX11_flips 110 = .ok (.iconst 1, 1) := dk_4 (dk_at dksX11_flips_4 17 rfl rfl)
theorem dX11_flips_111 : decode cX11_flips 111 = .ok (.goto 4, 3) := dk_167 0 4 (dk_at dksX11_flips_4 18 rfl rfl)
theorem dX11_flips_114 : decode cX11_flips 114 = .ok (.iconst 2, 1) := dk_5 (dk_at dksX11_flips_4 21 rfl rfl)
theorem dX11_flips_115 : decode cX11_flips 115 = .ok (.istore 6, 2) := dk_54 6 (dk_at dksX11_flips_4 22 rfl rfl)
theorem dX11_flips_117 : decode cX11_flips 117 = .ok (.iload 6, 2) := dk_21 6 (dk_at dksX11_flips_5 0 rfl rfl)
theorem dX11_flips_119 : decode cX11_flips 119 = .ok (.iload_n 1, 1) := dk_27 (dk_at dksX11_flips_5 2 rfl rfl)
theorem dX11_flips_120 : decode cX11_flips 120 = .ok (.if_icmp .ne 6, 3) := dk_160 0 6 (dk_at dksX11_flips_5 3 rfl rfl)
theorem dX11_flips_123 : decode cX11_flips 123 = .ok (.iinc 2 1, 3) := dk_132 2 1 (dk_at dksX11_flips_5 6 rfl rfl)
theorem dX11_flips_126 : decode cX11_flips 126 = .ok (.aload_n 0, 1) := dk_42 (dk_at dksX11_flips_5 9 rfl rfl)
theorem dX11_flips_127 : decode cX11_flips 127 = .ok (.invokevirtual 491, 3) := dk_182 1 235 (dk_at dksX11_flips_5 10 rfl rfl)
theorem dX11_flips_130 : decode cX11_flips 130 = .ok (.iinc 5 1, 3) := dk_132 5 1 (dk_at dksX11_flips_5 13 rfl rfl)
theorem dX11_flips_133 : decode cX11_flips 133 = .ok (.goto (-75), 3) := dk_167 255 181 (dk_at dksX11_flips_5 16 rfl rfl)
theorem dX11_flips_136 : decode cX11_flips 136 = .ok (.iinc 4 1, 3) := dk_132 4 1 (dk_at dksX11_flips_5 19 rfl rfl)
theorem dX11_flips_139 : decode cX11_flips 139 = .ok (.goto (-93), 3) := dk_167 255 163 (dk_at dksX11_flips_6 0 rfl rfl)
theorem dX11_flips_142 : decode cX11_flips 142 = .ok (.aload_n 0, 1) := dk_42 (dk_at dksX11_flips_6 3 rfl rfl)
theorem dX11_flips_143 : decode cX11_flips 143 = .ok (.invokevirtual 597, 3) := dk_182 2 85 (dk_at dksX11_flips_6 4 rfl rfl)
theorem dX11_flips_146 : decode cX11_flips 146 = .ok (.iload_n 2, 1) := dk_28 (dk_at dksX11_flips_6 7 rfl rfl)
theorem dX11_flips_147 : decode cX11_flips 147 = .ok (.ireturn, 1) := dk_172 (dk_at dksX11_flips_6 8 rfl rfl)
abbrev cX11_turns : ByteArray := prog_26_method_99_code
def yX11_turns : MethodName := ⟨RX11, "turns", "(I)V"⟩
def dkwX11_turns_1 : List UInt8 := [42, 180, 0, 111, 17, 0, 196, 27, 96, 4, 42, 180, 0, 111, 17, 0, 196, 27, 96, 46, 100, 79, 177]
abbrev dktX11_turns_1 : List UInt8 := dkwX11_turns_1 ++ []
def dkwX11_turns_0 : List UInt8 := [42, 180, 0, 111, 17, 2, 196, 27, 96, 17, 0, 255, 42, 180, 0, 111, 17, 2, 196, 27, 96, 46, 100, 79]
abbrev dktX11_turns_0 : List UInt8 := dkwX11_turns_0 ++ dktX11_turns_1
theorem dksX11_turns_0 : cX11_turns.data.toList.drop 0 = dktX11_turns_0 := by decide +kernel
theorem dksX11_turns_1 : cX11_turns.data.toList.drop 24 = dktX11_turns_1 := dk_seg dksX11_turns_0 24 rfl rfl
theorem dX11_turns_0 : decode cX11_turns 0 = .ok (.aload_n 0, 1) := dk_42 (dk_at dksX11_turns_0 0 rfl rfl)
theorem dX11_turns_1 : decode cX11_turns 1 = .ok (.getfield 111, 3) := dk_180 0 111 (dk_at dksX11_turns_0 1 rfl rfl)
theorem dX11_turns_4 : decode cX11_turns 4 = .ok (.sipush 708, 3) := dk_17 2 196 (dk_at dksX11_turns_0 4 rfl rfl)
theorem dX11_turns_7 : decode cX11_turns 7 = .ok (.iload_n 1, 1) := dk_27 (dk_at dksX11_turns_0 7 rfl rfl)
theorem dX11_turns_8 : decode cX11_turns 8 = .ok (.iadd, 1) := dk_96 (dk_at dksX11_turns_0 8 rfl rfl)
theorem dX11_turns_9 : decode cX11_turns 9 = .ok (.sipush 255, 3) := dk_17 0 255 (dk_at dksX11_turns_0 9 rfl rfl)
theorem dX11_turns_12 : decode cX11_turns 12 = .ok (.aload_n 0, 1) := dk_42 (dk_at dksX11_turns_0 12 rfl rfl)
theorem dX11_turns_13 : decode cX11_turns 13 = .ok (.getfield 111, 3) := dk_180 0 111 (dk_at dksX11_turns_0 13 rfl rfl)
theorem dX11_turns_16 : decode cX11_turns 16 = .ok (.sipush 708, 3) := dk_17 2 196 (dk_at dksX11_turns_0 16 rfl rfl)
theorem dX11_turns_19 : decode cX11_turns 19 = .ok (.iload_n 1, 1) := dk_27 (dk_at dksX11_turns_0 19 rfl rfl)
theorem dX11_turns_20 : decode cX11_turns 20 = .ok (.iadd, 1) := dk_96 (dk_at dksX11_turns_0 20 rfl rfl)
theorem dX11_turns_21 : decode cX11_turns 21 = .ok (.iaload, 1) := dk_46 (dk_at dksX11_turns_0 21 rfl rfl)
theorem dX11_turns_22 : decode cX11_turns 22 = .ok (.isub, 1) := dk_100 (dk_at dksX11_turns_0 22 rfl rfl)
theorem dX11_turns_23 : decode cX11_turns 23 = .ok (.iastore, 1) := dk_79 (dk_at dksX11_turns_0 23 rfl rfl)
theorem dX11_turns_24 : decode cX11_turns 24 = .ok (.aload_n 0, 1) := dk_42 (dk_at dksX11_turns_1 0 rfl rfl)
theorem dX11_turns_25 : decode cX11_turns 25 = .ok (.getfield 111, 3) := dk_180 0 111 (dk_at dksX11_turns_1 1 rfl rfl)
theorem dX11_turns_28 : decode cX11_turns 28 = .ok (.sipush 196, 3) := dk_17 0 196 (dk_at dksX11_turns_1 4 rfl rfl)
theorem dX11_turns_31 : decode cX11_turns 31 = .ok (.iload_n 1, 1) := dk_27 (dk_at dksX11_turns_1 7 rfl rfl)
theorem dX11_turns_32 : decode cX11_turns 32 = .ok (.iadd, 1) := dk_96 (dk_at dksX11_turns_1 8 rfl rfl)
theorem dX11_turns_33 : decode cX11_turns 33 = .ok (.iconst 1, 1) := dk_4 (dk_at dksX11_turns_1 9 rfl rfl)
theorem dX11_turns_34 : decode cX11_turns 34 = .ok (.aload_n 0, 1) := dk_42 (dk_at dksX11_turns_1 10 rfl rfl)
theorem dX11_turns_35 : decode cX11_turns 35 = .ok (.getfield 111, 3) := dk_180 0 111 (dk_at dksX11_turns_1 11 rfl rfl)
theorem dX11_turns_38 : decode cX11_turns 38 = .ok (.sipush 196, 3) := dk_17 0 196 (dk_at dksX11_turns_1 14 rfl rfl)
theorem dX11_turns_41 : decode cX11_turns 41 = .ok (.iload_n 1, 1) := dk_27 (dk_at dksX11_turns_1 17 rfl rfl)
theorem dX11_turns_42 : decode cX11_turns 42 = .ok (.iadd, 1) := dk_96 (dk_at dksX11_turns_1 18 rfl rfl)
theorem dX11_turns_43 : decode cX11_turns 43 = .ok (.iaload, 1) := dk_46 (dk_at dksX11_turns_1 19 rfl rfl)
theorem dX11_turns_44 : decode cX11_turns 44 = .ok (.isub, 1) := dk_100 (dk_at dksX11_turns_1 20 rfl rfl)
theorem dX11_turns_45 : decode cX11_turns 45 = .ok (.iastore, 1) := dk_79 (dk_at dksX11_turns_1 21 rfl rfl)
theorem dX11_turns_46 : decode cX11_turns 46 = .ok (.return_, 1) := dk_177 (dk_at dksX11_turns_1 22 rfl rfl)
abbrev cX11_see : ByteArray := prog_26_method_101_code
def yX11_see : MethodName := ⟨RX11, "see", "()I"⟩
def dkwX11_see_7 : List UInt8 := [104, 5, 96, 46, 96, 79, 132, 3, 1, 167, 255, 195, 42, 27, 6, 108, 181, 1, 94, 42, 180, 1, 94, 172]
abbrev dktX11_see_7 : List UInt8 := dkwX11_see_7 ++ []
def dkwX11_see_6 : List UInt8 := [29, 104, 4, 96, 17, 1, 0, 42, 180, 0, 7, 6, 29, 104, 4, 96, 46, 104, 42, 180, 0, 7, 6, 29]
abbrev dktX11_see_6 : List UInt8 := dkwX11_see_6 ++ dktX11_see_7
def dkwX11_see_5 : List UInt8 := [162, 0, 60, 42, 180, 0, 129, 5, 29, 104, 42, 180, 0, 7, 6, 29, 104, 46, 79, 42, 180, 0, 129, 5]
abbrev dktX11_see_5 : List UInt8 := dkwX11_see_5 ++ dktX11_see_6
def dkwX11_see_4 : List UInt8 := [132, 3, 3, 167, 255, 200, 28, 154, 0, 9, 42, 4, 182, 1, 77, 172, 3, 62, 29, 27, 6, 108]
abbrev dktX11_see_4 : List UInt8 := dkwX11_see_4 ++ dktX11_see_5
def dkwX11_see_3 : List UInt8 := [96, 46, 104, 42, 180, 0, 7, 29, 5, 96, 46, 96, 17, 3, 232, 163, 0, 7, 4, 167, 0, 4, 3, 61]
abbrev dktX11_see_3 : List UInt8 := dkwX11_see_3 ++ dktX11_see_4
def dkwX11_see_2 : List UInt8 := [28, 153, 0, 53, 42, 180, 0, 7, 29, 46, 16, 16, 162, 0, 34, 17, 1, 0, 42, 180, 0, 7, 29, 4]
abbrev dktX11_see_2 : List UInt8 := dkwX11_see_2 ++ dktX11_see_3
def dkwX11_see_1 : List UInt8 := [154, 0, 15, 27, 6, 108, 16, 16, 163, 0, 7, 4, 167, 0, 4, 3, 61, 3, 62, 29, 27, 162, 0, 57]
abbrev dktX11_see_1 : List UInt8 := dkwX11_see_1 ++ dktX11_see_2
def dkwX11_see_0 : List UInt8 := [42, 180, 0, 229, 60, 42, 3, 181, 0, 229, 42, 180, 1, 84, 153, 0, 25, 27, 158, 0, 21, 27, 6, 112]
abbrev dktX11_see_0 : List UInt8 := dkwX11_see_0 ++ dktX11_see_1
theorem dksX11_see_0 : cX11_see.data.toList.drop 0 = dktX11_see_0 := by decide +kernel
theorem dksX11_see_1 : cX11_see.data.toList.drop 24 = dktX11_see_1 := dk_seg dksX11_see_0 24 rfl rfl
theorem dksX11_see_2 : cX11_see.data.toList.drop 48 = dktX11_see_2 := dk_seg dksX11_see_1 24 rfl rfl
theorem dksX11_see_3 : cX11_see.data.toList.drop 72 = dktX11_see_3 := dk_seg dksX11_see_2 24 rfl rfl
theorem dksX11_see_4 : cX11_see.data.toList.drop 96 = dktX11_see_4 := dk_seg dksX11_see_3 24 rfl rfl
theorem dksX11_see_5 : cX11_see.data.toList.drop 118 = dktX11_see_5 := dk_seg dksX11_see_4 22 rfl rfl
theorem dksX11_see_6 : cX11_see.data.toList.drop 142 = dktX11_see_6 := dk_seg dksX11_see_5 24 rfl rfl
theorem dksX11_see_7 : cX11_see.data.toList.drop 166 = dktX11_see_7 := dk_seg dksX11_see_6 24 rfl rfl
theorem dX11_see_0 : decode cX11_see 0 = .ok (.aload_n 0, 1) := dk_42 (dk_at dksX11_see_0 0 rfl rfl)
theorem dX11_see_1 : decode cX11_see 1 = .ok (.getfield 229, 3) := dk_180 0 229 (dk_at dksX11_see_0 1 rfl rfl)
theorem dX11_see_4 : decode cX11_see 4 = .ok (.istore_n 1, 1) := dk_60 (dk_at dksX11_see_0 4 rfl rfl)
theorem dX11_see_5 : decode cX11_see 5 = .ok (.aload_n 0, 1) := dk_42 (dk_at dksX11_see_0 5 rfl rfl)
theorem dX11_see_6 : decode cX11_see 6 = .ok (.iconst 0, 1) := dk_3 (dk_at dksX11_see_0 6 rfl rfl)
theorem dX11_see_7 : decode cX11_see 7 = .ok (.putfield 229, 3) := dk_181 0 229 (dk_at dksX11_see_0 7 rfl rfl)
theorem dX11_see_10 : decode cX11_see 10 = .ok (.aload_n 0, 1) := dk_42 (dk_at dksX11_see_0 10 rfl rfl)
theorem dX11_see_11 : decode cX11_see 11 = .ok (.getfield 340, 3) := dk_180 1 84 (dk_at dksX11_see_0 11 rfl rfl)
theorem dX11_see_14 : decode cX11_see 14 = .ok (.ifCond .eq 25, 3) := dk_153 0 25 (dk_at dksX11_see_0 14 rfl rfl)
theorem dX11_see_17 : decode cX11_see 17 = .ok (.iload_n 1, 1) := dk_27 (dk_at dksX11_see_0 17 rfl rfl)
theorem dX11_see_18 : decode cX11_see 18 = .ok (.ifCond .le 21, 3) := dk_158 0 21 (dk_at dksX11_see_0 18 rfl rfl)
theorem dX11_see_21 : decode cX11_see 21 = .ok (.iload_n 1, 1) := dk_27 (dk_at dksX11_see_0 21 rfl rfl)
theorem dX11_see_22 : decode cX11_see 22 = .ok (.iconst 3, 1) := dk_6 (dk_at dksX11_see_0 22 rfl rfl)
theorem dX11_see_23 : decode cX11_see 23 = .ok (.irem, 1) := dk_112 (dk_at dksX11_see_0 23 rfl rfl)
theorem dX11_see_24 : decode cX11_see 24 = .ok (.ifCond .ne 15, 3) := dk_154 0 15 (dk_at dksX11_see_1 0 rfl rfl)
theorem dX11_see_27 : decode cX11_see 27 = .ok (.iload_n 1, 1) := dk_27 (dk_at dksX11_see_1 3 rfl rfl)
theorem dX11_see_28 : decode cX11_see 28 = .ok (.iconst 3, 1) := dk_6 (dk_at dksX11_see_1 4 rfl rfl)
theorem dX11_see_29 : decode cX11_see 29 = .ok (.idiv, 1) := dk_108 (dk_at dksX11_see_1 5 rfl rfl)
theorem dX11_see_30 : decode cX11_see 30 = .ok (.bipush 16, 2) := dk_16 16 (dk_at dksX11_see_1 6 rfl rfl)
theorem dX11_see_32 : decode cX11_see 32 = .ok (.if_icmp .gt 7, 3) := dk_163 0 7 (dk_at dksX11_see_1 8 rfl rfl)
theorem dX11_see_35 : decode cX11_see 35 = .ok (.iconst 1, 1) := dk_4 (dk_at dksX11_see_1 11 rfl rfl)
theorem dX11_see_36 : decode cX11_see 36 = .ok (.goto 4, 3) := dk_167 0 4 (dk_at dksX11_see_1 12 rfl rfl)
theorem dX11_see_39 : decode cX11_see 39 = .ok (.iconst 0, 1) := dk_3 (dk_at dksX11_see_1 15 rfl rfl)
theorem dX11_see_40 : decode cX11_see 40 = .ok (.istore_n 2, 1) := dk_61 (dk_at dksX11_see_1 16 rfl rfl)
theorem dX11_see_41 : decode cX11_see 41 = .ok (.iconst 0, 1) := dk_3 (dk_at dksX11_see_1 17 rfl rfl)
theorem dX11_see_42 : decode cX11_see 42 = .ok (.istore_n 3, 1) := dk_62 (dk_at dksX11_see_1 18 rfl rfl)
theorem dX11_see_43 : decode cX11_see 43 = .ok (.iload_n 3, 1) := dk_29 (dk_at dksX11_see_1 19 rfl rfl)
theorem dX11_see_44 : decode cX11_see 44 = .ok (.iload_n 1, 1) := dk_27 (dk_at dksX11_see_1 20 rfl rfl)
theorem dX11_see_45 : decode cX11_see 45 = .ok (.if_icmp .ge 57, 3) := dk_162 0 57 (dk_at dksX11_see_1 21 rfl rfl)
theorem dX11_see_48 : decode cX11_see 48 = .ok (.iload_n 2, 1) := dk_28 (dk_at dksX11_see_2 0 rfl rfl)
theorem dX11_see_49 : decode cX11_see 49 = .ok (.ifCond .eq 53, 3) := dk_153 0 53 (dk_at dksX11_see_2 1 rfl rfl)
theorem dX11_see_52 : decode cX11_see 52 = .ok (.aload_n 0, 1) := dk_42 (dk_at dksX11_see_2 4 rfl rfl)
theorem dX11_see_53 : decode cX11_see 53 = .ok (.getfield 7, 3) := dk_180 0 7 (dk_at dksX11_see_2 5 rfl rfl)
theorem dX11_see_56 : decode cX11_see 56 = .ok (.iload_n 3, 1) := dk_29 (dk_at dksX11_see_2 8 rfl rfl)
theorem dX11_see_57 : decode cX11_see 57 = .ok (.iaload, 1) := dk_46 (dk_at dksX11_see_2 9 rfl rfl)
theorem dX11_see_58 : decode cX11_see 58 = .ok (.bipush 16, 2) := dk_16 16 (dk_at dksX11_see_2 10 rfl rfl)
theorem dX11_see_60 : decode cX11_see 60 = .ok (.if_icmp .ge 34, 3) := dk_162 0 34 (dk_at dksX11_see_2 12 rfl rfl)
theorem dX11_see_63 : decode cX11_see 63 = .ok (.sipush 256, 3) := dk_17 1 0 (dk_at dksX11_see_2 15 rfl rfl)
theorem dX11_see_66 : decode cX11_see 66 = .ok (.aload_n 0, 1) := dk_42 (dk_at dksX11_see_2 18 rfl rfl)
theorem dX11_see_67 : decode cX11_see 67 = .ok (.getfield 7, 3) := dk_180 0 7 (dk_at dksX11_see_2 19 rfl rfl)
theorem dX11_see_70 : decode cX11_see 70 = .ok (.iload_n 3, 1) := dk_29 (dk_at dksX11_see_2 22 rfl rfl)
theorem dX11_see_71 : decode cX11_see 71 = .ok (.iconst 1, 1) := dk_4 (dk_at dksX11_see_2 23 rfl rfl)
theorem dX11_see_72 : decode cX11_see 72 = .ok (.iadd, 1) := dk_96 (dk_at dksX11_see_3 0 rfl rfl)
theorem dX11_see_73 : decode cX11_see 73 = .ok (.iaload, 1) := dk_46 (dk_at dksX11_see_3 1 rfl rfl)
theorem dX11_see_74 : decode cX11_see 74 = .ok (.imul, 1) := dk_104 (dk_at dksX11_see_3 2 rfl rfl)
theorem dX11_see_75 : decode cX11_see 75 = .ok (.aload_n 0, 1) := dk_42 (dk_at dksX11_see_3 3 rfl rfl)
theorem dX11_see_76 : decode cX11_see 76 = .ok (.getfield 7, 3) := dk_180 0 7 (dk_at dksX11_see_3 4 rfl rfl)
theorem dX11_see_79 : decode cX11_see 79 = .ok (.iload_n 3, 1) := dk_29 (dk_at dksX11_see_3 7 rfl rfl)
theorem dX11_see_80 : decode cX11_see 80 = .ok (.iconst 2, 1) := dk_5 (dk_at dksX11_see_3 8 rfl rfl)
theorem dX11_see_81 : decode cX11_see 81 = .ok (.iadd, 1) := dk_96 (dk_at dksX11_see_3 9 rfl rfl)
theorem dX11_see_82 : decode cX11_see 82 = .ok (.iaload, 1) := dk_46 (dk_at dksX11_see_3 10 rfl rfl)
theorem dX11_see_83 : decode cX11_see 83 = .ok (.iadd, 1) := dk_96 (dk_at dksX11_see_3 11 rfl rfl)
theorem dX11_see_84 : decode cX11_see 84 = .ok (.sipush 1000, 3) := dk_17 3 232 (dk_at dksX11_see_3 12 rfl rfl)
theorem dX11_see_87 : decode cX11_see 87 = .ok (.if_icmp .gt 7, 3) := dk_163 0 7 (dk_at dksX11_see_3 15 rfl rfl)
theorem dX11_see_90 : decode cX11_see 90 = .ok (.iconst 1, 1) := dk_4 (dk_at dksX11_see_3 18 rfl rfl)
theorem dX11_see_91 : decode cX11_see 91 = .ok (.goto 4, 3) := dk_167 0 4 (dk_at dksX11_see_3 19 rfl rfl)
theorem dX11_see_94 : decode cX11_see 94 = .ok (.iconst 0, 1) := dk_3 (dk_at dksX11_see_3 22 rfl rfl)
theorem dX11_see_95 : decode cX11_see 95 = .ok (.istore_n 2, 1) := dk_61 (dk_at dksX11_see_3 23 rfl rfl)
theorem dX11_see_96 : decode cX11_see 96 = .ok (.iinc 3 3, 3) := dk_132 3 3 (dk_at dksX11_see_4 0 rfl rfl)
theorem dX11_see_99 : decode cX11_see 99 = .ok (.goto (-56), 3) := dk_167 255 200 (dk_at dksX11_see_4 3 rfl rfl)
theorem dX11_see_102 : decode cX11_see 102 = .ok (.iload_n 2, 1) := dk_28 (dk_at dksX11_see_4 6 rfl rfl)
theorem dX11_see_103 : decode cX11_see 103 = .ok (.ifCond .ne 9, 3) := dk_154 0 9 (dk_at dksX11_see_4 7 rfl rfl)
theorem dX11_see_106 : decode cX11_see 106 = .ok (.aload_n 0, 1) := dk_42 (dk_at dksX11_see_4 10 rfl rfl)
theorem dX11_see_107 : decode cX11_see 107 = .ok (.iconst 1, 1) := dk_4 (dk_at dksX11_see_4 11 rfl rfl)
theorem dX11_see_108 : decode cX11_see 108 = .ok (.invokevirtual 333, 3) := dk_182 1 77 (dk_at dksX11_see_4 12 rfl rfl)
theorem dX11_see_111 : decode cX11_see 111 = .ok (.ireturn, 1) := dk_172 (dk_at dksX11_see_4 15 rfl rfl)
theorem dX11_see_112 : decode cX11_see 112 = .ok (.iconst 0, 1) := dk_3 (dk_at dksX11_see_4 16 rfl rfl)
theorem dX11_see_113 : decode cX11_see 113 = .ok (.istore_n 3, 1) := dk_62 (dk_at dksX11_see_4 17 rfl rfl)
theorem dX11_see_114 : decode cX11_see 114 = .ok (.iload_n 3, 1) := dk_29 (dk_at dksX11_see_4 18 rfl rfl)
theorem dX11_see_115 : decode cX11_see 115 = .ok (.iload_n 1, 1) := dk_27 (dk_at dksX11_see_4 19 rfl rfl)
theorem dX11_see_116 : decode cX11_see 116 = .ok (.iconst 3, 1) := dk_6 (dk_at dksX11_see_4 20 rfl rfl)
theorem dX11_see_117 : decode cX11_see 117 = .ok (.idiv, 1) := dk_108 (dk_at dksX11_see_4 21 rfl rfl)
theorem dX11_see_118 : decode cX11_see 118 = .ok (.if_icmp .ge 60, 3) := dk_162 0 60 (dk_at dksX11_see_5 0 rfl rfl)
theorem dX11_see_121 : decode cX11_see 121 = .ok (.aload_n 0, 1) := dk_42 (dk_at dksX11_see_5 3 rfl rfl)
theorem dX11_see_122 : decode cX11_see 122 = .ok (.getfield 129, 3) := dk_180 0 129 (dk_at dksX11_see_5 4 rfl rfl)
theorem dX11_see_125 : decode cX11_see 125 = .ok (.iconst 2, 1) := dk_5 (dk_at dksX11_see_5 7 rfl rfl)
theorem dX11_see_126 : decode cX11_see 126 = .ok (.iload_n 3, 1) := dk_29 (dk_at dksX11_see_5 8 rfl rfl)
theorem dX11_see_127 : decode cX11_see 127 = .ok (.imul, 1) := dk_104 (dk_at dksX11_see_5 9 rfl rfl)
theorem dX11_see_128 : decode cX11_see 128 = .ok (.aload_n 0, 1) := dk_42 (dk_at dksX11_see_5 10 rfl rfl)
theorem dX11_see_129 : decode cX11_see 129 = .ok (.getfield 7, 3) := dk_180 0 7 (dk_at dksX11_see_5 11 rfl rfl)
theorem dX11_see_132 : decode cX11_see 132 = .ok (.iconst 3, 1) := dk_6 (dk_at dksX11_see_5 14 rfl rfl)
theorem dX11_see_133 : decode cX11_see 133 = .ok (.iload_n 3, 1) := dk_29 (dk_at dksX11_see_5 15 rfl rfl)
theorem dX11_see_134 : decode cX11_see 134 = .ok (.imul, 1) := dk_104 (dk_at dksX11_see_5 16 rfl rfl)
theorem dX11_see_135 : decode cX11_see 135 = .ok (.iaload, 1) := dk_46 (dk_at dksX11_see_5 17 rfl rfl)
theorem dX11_see_136 : decode cX11_see 136 = .ok (.iastore, 1) := dk_79 (dk_at dksX11_see_5 18 rfl rfl)
theorem dX11_see_137 : decode cX11_see 137 = .ok (.aload_n 0, 1) := dk_42 (dk_at dksX11_see_5 19 rfl rfl)
theorem dX11_see_138 : decode cX11_see 138 = .ok (.getfield 129, 3) := dk_180 0 129 (dk_at dksX11_see_5 20 rfl rfl)
theorem dX11_see_141 : decode cX11_see 141 = .ok (.iconst 2, 1) := dk_5 (dk_at dksX11_see_5 23 rfl rfl)
theorem dX11_see_142 : decode cX11_see 142 = .ok (.iload_n 3, 1) := dk_29 (dk_at dksX11_see_6 0 rfl rfl)
theorem dX11_see_143 : decode cX11_see 143 = .ok (.imul, 1) := dk_104 (dk_at dksX11_see_6 1 rfl rfl)
theorem dX11_see_144 : decode cX11_see 144 = .ok (.iconst 1, 1) := dk_4 (dk_at dksX11_see_6 2 rfl rfl)
theorem dX11_see_145 : decode cX11_see 145 = .ok (.iadd, 1) := dk_96 (dk_at dksX11_see_6 3 rfl rfl)
theorem dX11_see_146 : decode cX11_see 146 = .ok (.sipush 256, 3) := dk_17 1 0 (dk_at dksX11_see_6 4 rfl rfl)
theorem dX11_see_149 : decode cX11_see 149 = .ok (.aload_n 0, 1) := dk_42 (dk_at dksX11_see_6 7 rfl rfl)
theorem dX11_see_150 : decode cX11_see 150 = .ok (.getfield 7, 3) := dk_180 0 7 (dk_at dksX11_see_6 8 rfl rfl)
theorem dX11_see_153 : decode cX11_see 153 = .ok (.iconst 3, 1) := dk_6 (dk_at dksX11_see_6 11 rfl rfl)
theorem dX11_see_154 : decode cX11_see 154 = .ok (.iload_n 3, 1) := dk_29 (dk_at dksX11_see_6 12 rfl rfl)
theorem dX11_see_155 : decode cX11_see 155 = .ok (.imul, 1) := dk_104 (dk_at dksX11_see_6 13 rfl rfl)
theorem dX11_see_156 : decode cX11_see 156 = .ok (.iconst 1, 1) := dk_4 (dk_at dksX11_see_6 14 rfl rfl)
theorem dX11_see_157 : decode cX11_see 157 = .ok (.iadd, 1) := dk_96 (dk_at dksX11_see_6 15 rfl rfl)
theorem dX11_see_158 : decode cX11_see 158 = .ok (.iaload, 1) := dk_46 (dk_at dksX11_see_6 16 rfl rfl)
theorem dX11_see_159 : decode cX11_see 159 = .ok (.imul, 1) := dk_104 (dk_at dksX11_see_6 17 rfl rfl)
theorem dX11_see_160 : decode cX11_see 160 = .ok (.aload_n 0, 1) := dk_42 (dk_at dksX11_see_6 18 rfl rfl)
theorem dX11_see_161 : decode cX11_see 161 = .ok (.getfield 7, 3) := dk_180 0 7 (dk_at dksX11_see_6 19 rfl rfl)
theorem dX11_see_164 : decode cX11_see 164 = .ok (.iconst 3, 1) := dk_6 (dk_at dksX11_see_6 22 rfl rfl)
theorem dX11_see_165 : decode cX11_see 165 = .ok (.iload_n 3, 1) := dk_29 (dk_at dksX11_see_6 23 rfl rfl)
theorem dX11_see_166 : decode cX11_see 166 = .ok (.imul, 1) := dk_104 (dk_at dksX11_see_7 0 rfl rfl)
theorem dX11_see_167 : decode cX11_see 167 = .ok (.iconst 2, 1) := dk_5 (dk_at dksX11_see_7 1 rfl rfl)
theorem dX11_see_168 : decode cX11_see 168 = .ok (.iadd, 1) := dk_96 (dk_at dksX11_see_7 2 rfl rfl)
theorem dX11_see_169 : decode cX11_see 169 = .ok (.iaload, 1) := dk_46 (dk_at dksX11_see_7 3 rfl rfl)
theorem dX11_see_170 : decode cX11_see 170 = .ok (.iadd, 1) := dk_96 (dk_at dksX11_see_7 4 rfl rfl)
theorem dX11_see_171 : decode cX11_see 171 = .ok (.iastore, 1) := dk_79 (dk_at dksX11_see_7 5 rfl rfl)
theorem dX11_see_172 : decode cX11_see 172 = .ok (.iinc 3 1, 3) := dk_132 3 1 (dk_at dksX11_see_7 6 rfl rfl)
theorem dX11_see_175 : decode cX11_see 175 = .ok (.goto (-61), 3) := dk_167 255 195 (dk_at dksX11_see_7 9 rfl rfl)
theorem dX11_see_178 : decode cX11_see 178 = .ok (.aload_n 0, 1) := dk_42 (dk_at dksX11_see_7 12 rfl rfl)
theorem dX11_see_179 : decode cX11_see 179 = .ok (.iload_n 1, 1) := dk_27 (dk_at dksX11_see_7 13 rfl rfl)
theorem dX11_see_180 : decode cX11_see 180 = .ok (.iconst 3, 1) := dk_6 (dk_at dksX11_see_7 14 rfl rfl)
theorem dX11_see_181 : decode cX11_see 181 = .ok (.idiv, 1) := dk_108 (dk_at dksX11_see_7 15 rfl rfl)
theorem dX11_see_182 : decode cX11_see 182 = .ok (.putfield 350, 3) := dk_181 1 94 (dk_at dksX11_see_7 16 rfl rfl)
theorem dX11_see_185 : decode cX11_see 185 = .ok (.aload_n 0, 1) := dk_42 (dk_at dksX11_see_7 19 rfl rfl)
theorem dX11_see_186 : decode cX11_see 186 = .ok (.getfield 350, 3) := dk_180 1 94 (dk_at dksX11_see_7 20 rfl rfl)
theorem dX11_see_189 : decode cX11_see 189 = .ok (.ireturn, 1) := dk_172 (dk_at dksX11_see_7 23 rfl rfl)
abbrev cX11_arrived : ByteArray := prog_26_method_104_code
def yX11_arrived : MethodName := ⟨RX11, "arrived", "(I)I"⟩
def dkwX11_arrived_2 : List UInt8 := [154, 0, 6, 167, 0, 13, 28, 27, 160, 0, 5, 29, 172, 132, 2, 1, 132, 3, 1, 167, 255, 221, 2, 172]
abbrev dktX11_arrived_2 : List UInt8 := dkwX11_arrived_2 ++ []
def dkwX11_arrived_1 : List UInt8 := [180, 2, 110, 172, 3, 61, 3, 62, 29, 42, 180, 0, 111, 7, 46, 163, 0, 31, 42, 180, 0, 132, 29, 51]
abbrev dktX11_arrived_1 : List UInt8 := dkwX11_arrived_1 ++ dktX11_arrived_2
def dkwX11_arrived_0 : List UInt8 := [42, 180, 1, 84, 153, 0, 8, 27, 2, 162, 0, 5, 2, 172, 42, 182, 2, 116, 27, 2, 160, 0, 8, 42]
abbrev dktX11_arrived_0 : List UInt8 := dkwX11_arrived_0 ++ dktX11_arrived_1
theorem dksX11_arrived_0 : cX11_arrived.data.toList.drop 0 = dktX11_arrived_0 := by decide +kernel
theorem dksX11_arrived_1 : cX11_arrived.data.toList.drop 24 = dktX11_arrived_1 := dk_seg dksX11_arrived_0 24 rfl rfl
theorem dksX11_arrived_2 : cX11_arrived.data.toList.drop 48 = dktX11_arrived_2 := dk_seg dksX11_arrived_1 24 rfl rfl
theorem dX11_arrived_0 : decode cX11_arrived 0 = .ok (.aload_n 0, 1) := dk_42 (dk_at dksX11_arrived_0 0 rfl rfl)
theorem dX11_arrived_1 : decode cX11_arrived 1 = .ok (.getfield 340, 3) := dk_180 1 84 (dk_at dksX11_arrived_0 1 rfl rfl)
theorem dX11_arrived_4 : decode cX11_arrived 4 = .ok (.ifCond .eq 8, 3) := dk_153 0 8 (dk_at dksX11_arrived_0 4 rfl rfl)
theorem dX11_arrived_7 : decode cX11_arrived 7 = .ok (.iload_n 1, 1) := dk_27 (dk_at dksX11_arrived_0 7 rfl rfl)
theorem dX11_arrived_8 : decode cX11_arrived 8 = .ok (.iconst (-1), 1) := dk_2 (dk_at dksX11_arrived_0 8 rfl rfl)
theorem dX11_arrived_9 : decode cX11_arrived 9 = .ok (.if_icmp .ge 5, 3) := dk_162 0 5 (dk_at dksX11_arrived_0 9 rfl rfl)
theorem dX11_arrived_12 : decode cX11_arrived 12 = .ok (.iconst (-1), 1) := dk_2 (dk_at dksX11_arrived_0 12 rfl rfl)
theorem dX11_arrived_13 : decode cX11_arrived 13 = .ok (.ireturn, 1) := dk_172 (dk_at dksX11_arrived_0 13 rfl rfl)
theorem dX11_arrived_14 : decode cX11_arrived 14 = .ok (.aload_n 0, 1) := dk_42 (dk_at dksX11_arrived_0 14 rfl rfl)
theorem dX11_arrived_15 : decode cX11_arrived 15 = .ok (.invokevirtual 628, 3) := dk_182 2 116 (dk_at dksX11_arrived_0 15 rfl rfl)
theorem dX11_arrived_18 : decode cX11_arrived 18 = .ok (.iload_n 1, 1) := dk_27 (dk_at dksX11_arrived_0 18 rfl rfl)
theorem dX11_arrived_19 : decode cX11_arrived 19 = .ok (.iconst (-1), 1) := dk_2 (dk_at dksX11_arrived_0 19 rfl rfl)
theorem dX11_arrived_20 : decode cX11_arrived 20 = .ok (.if_icmp .ne 8, 3) := dk_160 0 8 (dk_at dksX11_arrived_0 20 rfl rfl)
theorem dX11_arrived_23 : decode cX11_arrived 23 = .ok (.aload_n 0, 1) := dk_42 (dk_at dksX11_arrived_0 23 rfl rfl)
theorem dX11_arrived_24 : decode cX11_arrived 24 = .ok (.getfield 622, 3) := dk_180 2 110 (dk_at dksX11_arrived_1 0 rfl rfl)
theorem dX11_arrived_27 : decode cX11_arrived 27 = .ok (.ireturn, 1) := dk_172 (dk_at dksX11_arrived_1 3 rfl rfl)
theorem dX11_arrived_28 : decode cX11_arrived 28 = .ok (.iconst 0, 1) := dk_3 (dk_at dksX11_arrived_1 4 rfl rfl)
theorem dX11_arrived_29 : decode cX11_arrived 29 = .ok (.istore_n 2, 1) := dk_61 (dk_at dksX11_arrived_1 5 rfl rfl)
theorem dX11_arrived_30 : decode cX11_arrived 30 = .ok (.iconst 0, 1) := dk_3 (dk_at dksX11_arrived_1 6 rfl rfl)
theorem dX11_arrived_31 : decode cX11_arrived 31 = .ok (.istore_n 3, 1) := dk_62 (dk_at dksX11_arrived_1 7 rfl rfl)
theorem dX11_arrived_32 : decode cX11_arrived 32 = .ok (.iload_n 3, 1) := dk_29 (dk_at dksX11_arrived_1 8 rfl rfl)
theorem dX11_arrived_33 : decode cX11_arrived 33 = .ok (.aload_n 0, 1) := dk_42 (dk_at dksX11_arrived_1 9 rfl rfl)
theorem dX11_arrived_34 : decode cX11_arrived 34 = .ok (.getfield 111, 3) := dk_180 0 111 (dk_at dksX11_arrived_1 10 rfl rfl)
theorem dX11_arrived_37 : decode cX11_arrived 37 = .ok (.iconst 4, 1) := dk_7 (dk_at dksX11_arrived_1 13 rfl rfl)
theorem dX11_arrived_38 : decode cX11_arrived 38 = .ok (.iaload, 1) := dk_46 (dk_at dksX11_arrived_1 14 rfl rfl)
theorem dX11_arrived_39 : decode cX11_arrived 39 = .ok (.if_icmp .gt 31, 3) := dk_163 0 31 (dk_at dksX11_arrived_1 15 rfl rfl)
theorem dX11_arrived_42 : decode cX11_arrived 42 = .ok (.aload_n 0, 1) := dk_42 (dk_at dksX11_arrived_1 18 rfl rfl)
theorem dX11_arrived_43 : decode cX11_arrived 43 = .ok (.getfield 132, 3) := dk_180 0 132 (dk_at dksX11_arrived_1 19 rfl rfl)
theorem dX11_arrived_46 : decode cX11_arrived 46 = .ok (.iload_n 3, 1) := dk_29 (dk_at dksX11_arrived_1 22 rfl rfl)
theorem dX11_arrived_47 : decode cX11_arrived 47 = .ok (.baload, 1) := dk_51 (dk_at dksX11_arrived_1 23 rfl rfl)
theorem dX11_arrived_48 : decode cX11_arrived 48 = .ok (.ifCond .ne 6, 3) := dk_154 0 6 (dk_at dksX11_arrived_2 0 rfl rfl)
theorem dX11_arrived_51 : decode cX11_arrived 51 = .ok (.goto 13, 3) := dk_167 0 13 (dk_at dksX11_arrived_2 3 rfl rfl)
theorem dX11_arrived_54 : decode cX11_arrived 54 = .ok (.iload_n 2, 1) := dk_28 (dk_at dksX11_arrived_2 6 rfl rfl)
theorem dX11_arrived_55 : decode cX11_arrived 55 = .ok (.iload_n 1, 1) := dk_27 (dk_at dksX11_arrived_2 7 rfl rfl)
theorem dX11_arrived_56 : decode cX11_arrived 56 = .ok (.if_icmp .ne 5, 3) := dk_160 0 5 (dk_at dksX11_arrived_2 8 rfl rfl)
theorem dX11_arrived_59 : decode cX11_arrived 59 = .ok (.iload_n 3, 1) := dk_29 (dk_at dksX11_arrived_2 11 rfl rfl)
theorem dX11_arrived_60 : decode cX11_arrived 60 = .ok (.ireturn, 1) := dk_172 (dk_at dksX11_arrived_2 12 rfl rfl)
theorem dX11_arrived_61 : decode cX11_arrived 61 = .ok (.iinc 2 1, 3) := dk_132 2 1 (dk_at dksX11_arrived_2 13 rfl rfl)
theorem dX11_arrived_64 : decode cX11_arrived 64 = .ok (.iinc 3 1, 3) := dk_132 3 1 (dk_at dksX11_arrived_2 16 rfl rfl)
theorem dX11_arrived_67 : decode cX11_arrived 67 = .ok (.goto (-35), 3) := dk_167 255 221 (dk_at dksX11_arrived_2 19 rfl rfl)
theorem dX11_arrived_70 : decode cX11_arrived 70 = .ok (.iconst (-1), 1) := dk_2 (dk_at dksX11_arrived_2 22 rfl rfl)
theorem dX11_arrived_71 : decode cX11_arrived 71 = .ok (.ireturn, 1) := dk_172 (dk_at dksX11_arrived_2 23 rfl rfl)
abbrev cX11_laysArrived : ByteArray := prog_26_method_103_code
def yX11_laysArrived : MethodName := ⟨RX11, "laysArrived", "()V"⟩
def dkwX11_laysArrived_5 : List UInt8 := [132, 2, 1, 167, 255, 154, 42, 182, 2, 85, 177]
abbrev dktX11_laysArrived_5 : List UInt8 := dkwX11_laysArrived_5 ++ []
def dkwX11_laysArrived_4 : List UInt8 := [42, 180, 0, 132, 28, 51, 153, 0, 13, 42, 89, 180, 2, 110, 4, 96, 181, 2, 110, 42, 182, 1, 235]
abbrev dktX11_laysArrived_4 : List UInt8 := dkwX11_laysArrived_4 ++ dktX11_laysArrived_5
def dkwX11_laysArrived_3 : List UInt8 := [17, 0, 144, 29, 96, 46, 79, 132, 3, 1, 167, 255, 206, 42, 180, 0, 132, 28, 42, 28, 182, 2, 113, 84]
abbrev dktX11_laysArrived_3 : List UInt8 := dkwX11_laysArrived_3 ++ dktX11_laysArrived_4
def dkwX11_laysArrived_2 : List UInt8 := [180, 0, 111, 17, 0, 144, 29, 96, 46, 2, 160, 0, 9, 17, 3, 232, 167, 0, 13, 42, 180, 0, 111]
abbrev dktX11_laysArrived_2 : List UInt8 := dkwX11_laysArrived_2 ++ dktX11_laysArrived_3
def dkwX11_laysArrived_1 : List UInt8 := [28, 182, 2, 101, 3, 62, 29, 16, 16, 162, 0, 50, 42, 180, 0, 136, 16, 16, 28, 104, 29, 96, 42]
abbrev dktX11_laysArrived_1 : List UInt8 := dkwX11_laysArrived_1 ++ dktX11_laysArrived_2
def dkwX11_laysArrived_0 : List UInt8 := [42, 180, 0, 111, 7, 46, 60, 42, 3, 181, 2, 110, 42, 182, 2, 79, 3, 61, 28, 27, 163, 0, 103, 42]
abbrev dktX11_laysArrived_0 : List UInt8 := dkwX11_laysArrived_0 ++ dktX11_laysArrived_1
theorem dksX11_laysArrived_0 : cX11_laysArrived.data.toList.drop 0 = dktX11_laysArrived_0 := by decide +kernel
theorem dksX11_laysArrived_1 : cX11_laysArrived.data.toList.drop 24 = dktX11_laysArrived_1 := dk_seg dksX11_laysArrived_0 24 rfl rfl
theorem dksX11_laysArrived_2 : cX11_laysArrived.data.toList.drop 47 = dktX11_laysArrived_2 := dk_seg dksX11_laysArrived_1 23 rfl rfl
theorem dksX11_laysArrived_3 : cX11_laysArrived.data.toList.drop 70 = dktX11_laysArrived_3 := dk_seg dksX11_laysArrived_2 23 rfl rfl
theorem dksX11_laysArrived_4 : cX11_laysArrived.data.toList.drop 94 = dktX11_laysArrived_4 := dk_seg dksX11_laysArrived_3 24 rfl rfl
theorem dksX11_laysArrived_5 : cX11_laysArrived.data.toList.drop 117 = dktX11_laysArrived_5 := dk_seg dksX11_laysArrived_4 23 rfl rfl
theorem dX11_laysArrived_0 : decode cX11_laysArrived 0 = .ok (.aload_n 0, 1) := dk_42 (dk_at dksX11_laysArrived_0 0 rfl rfl)
theorem dX11_laysArrived_1 : decode cX11_laysArrived 1 = .ok (.getfield 111, 3) := dk_180 0 111 (dk_at dksX11_laysArrived_0 1 rfl rfl)
theorem dX11_laysArrived_4 : decode cX11_laysArrived 4 = .ok (.iconst 4, 1) := dk_7 (dk_at dksX11_laysArrived_0 4 rfl rfl)
theorem dX11_laysArrived_5 : decode cX11_laysArrived 5 = .ok (.iaload, 1) := dk_46 (dk_at dksX11_laysArrived_0 5 rfl rfl)
theorem dX11_laysArrived_6 : decode cX11_laysArrived 6 = .ok (.istore_n 1, 1) := dk_60 (dk_at dksX11_laysArrived_0 6 rfl rfl)
theorem dX11_laysArrived_7 : decode cX11_laysArrived 7 = .ok (.aload_n 0, 1) := dk_42 (dk_at dksX11_laysArrived_0 7 rfl rfl)
theorem dX11_laysArrived_8 : decode cX11_laysArrived 8 = .ok (.iconst 0, 1) := dk_3 (dk_at dksX11_laysArrived_0 8 rfl rfl)
theorem dX11_laysArrived_9 : decode cX11_laysArrived 9 = .ok (.putfield 622, 3) := dk_181 2 110 (dk_at dksX11_laysArrived_0 9 rfl rfl)
theorem dX11_laysArrived_12 : decode cX11_laysArrived 12 = .ok (.aload_n 0, 1) := dk_42 (dk_at dksX11_laysArrived_0 12 rfl rfl)
theorem dX11_laysArrived_13 : decode cX11_laysArrived 13 = .ok (.invokevirtual 591, 3) := dk_182 2 79 (dk_at dksX11_laysArrived_0 13 rfl rfl)
theorem dX11_laysArrived_16 : decode cX11_laysArrived 16 = .ok (.iconst 0, 1) := dk_3 (dk_at dksX11_laysArrived_0 16 rfl rfl)
theorem dX11_laysArrived_17 : decode cX11_laysArrived 17 = .ok (.istore_n 2, 1) := dk_61 (dk_at dksX11_laysArrived_0 17 rfl rfl)
theorem dX11_laysArrived_18 : decode cX11_laysArrived 18 = .ok (.iload_n 2, 1) := dk_28 (dk_at dksX11_laysArrived_0 18 rfl rfl)
theorem dX11_laysArrived_19 : decode cX11_laysArrived 19 = .ok (.iload_n 1, 1) := dk_27 (dk_at dksX11_laysArrived_0 19 rfl rfl)
theorem dX11_laysArrived_20 : decode cX11_laysArrived 20 = .ok (.if_icmp .gt 103, 3) := dk_163 0 103 (dk_at dksX11_laysArrived_0 20 rfl rfl)
theorem dX11_laysArrived_23 : decode cX11_laysArrived 23 = .ok (.aload_n 0, 1) := dk_42 (dk_at dksX11_laysArrived_0 23 rfl rfl)
theorem dX11_laysArrived_24 : decode cX11_laysArrived 24 = .ok (.iload_n 2, 1) := dk_28 (dk_at dksX11_laysArrived_1 0 rfl rfl)
theorem dX11_laysArrived_25 : decode cX11_laysArrived 25 = .ok (.invokevirtual 613, 3) := dk_182 2 101 (dk_at dksX11_laysArrived_1 1 rfl rfl)
theorem dX11_laysArrived_28 : decode cX11_laysArrived 28 = .ok (.iconst 0, 1) := dk_3 (dk_at dksX11_laysArrived_1 4 rfl rfl)
theorem dX11_laysArrived_29 : decode cX11_laysArrived 29 = .ok (.istore_n 3, 1) := dk_62 (dk_at dksX11_laysArrived_1 5 rfl rfl)
theorem dX11_laysArrived_30 : decode cX11_laysArrived 30 = .ok (.iload_n 3, 1) := dk_29 (dk_at dksX11_laysArrived_1 6 rfl rfl)
theorem dX11_laysArrived_31 : decode cX11_laysArrived 31 = .ok (.bipush 16, 2) := dk_16 16 (dk_at dksX11_laysArrived_1 7 rfl rfl)
theorem dX11_laysArrived_33 : decode cX11_laysArrived 33 = .ok (.if_icmp .ge 50, 3) := dk_162 0 50 (dk_at dksX11_laysArrived_1 9 rfl rfl)
theorem dX11_laysArrived_36 : decode cX11_laysArrived 36 = .ok (.aload_n 0, 1) := dk_42 (dk_at dksX11_laysArrived_1 12 rfl rfl)
theorem dX11_laysArrived_37 : decode cX11_laysArrived 37 = .ok (.getfield 136, 3) := dk_180 0 136 (dk_at dksX11_laysArrived_1 13 rfl rfl)
theorem dX11_laysArrived_40 : decode cX11_laysArrived 40 = .ok (.bipush 16, 2) := dk_16 16 (dk_at dksX11_laysArrived_1 16 rfl rfl)
theorem dX11_laysArrived_42 : decode cX11_laysArrived 42 = .ok (.iload_n 2, 1) := dk_28 (dk_at dksX11_laysArrived_1 18 rfl rfl)
theorem dX11_laysArrived_43 : decode cX11_laysArrived 43 = .ok (.imul, 1) := dk_104 (dk_at dksX11_laysArrived_1 19 rfl rfl)
theorem dX11_laysArrived_44 : decode cX11_laysArrived 44 = .ok (.iload_n 3, 1) := dk_29 (dk_at dksX11_laysArrived_1 20 rfl rfl)
theorem dX11_laysArrived_45 : decode cX11_laysArrived 45 = .ok (.iadd, 1) := dk_96 (dk_at dksX11_laysArrived_1 21 rfl rfl)
theorem dX11_laysArrived_46 : decode cX11_laysArrived 46 = .ok (.aload_n 0, 1) := dk_42 (dk_at dksX11_laysArrived_1 22 rfl rfl)
theorem dX11_laysArrived_47 : decode cX11_laysArrived 47 = .ok (.getfield 111, 3) := dk_180 0 111 (dk_at dksX11_laysArrived_2 0 rfl rfl)
theorem dX11_laysArrived_50 : decode cX11_laysArrived 50 = .ok (.sipush 144, 3) := dk_17 0 144 (dk_at dksX11_laysArrived_2 3 rfl rfl)
theorem dX11_laysArrived_53 : decode cX11_laysArrived 53 = .ok (.iload_n 3, 1) := dk_29 (dk_at dksX11_laysArrived_2 6 rfl rfl)
theorem dX11_laysArrived_54 : decode cX11_laysArrived 54 = .ok (.iadd, 1) := dk_96 (dk_at dksX11_laysArrived_2 7 rfl rfl)
theorem dX11_laysArrived_55 : decode cX11_laysArrived 55 = .ok (.iaload, 1) := dk_46 (dk_at dksX11_laysArrived_2 8 rfl rfl)
theorem dX11_laysArrived_56 : decode cX11_laysArrived 56 = .ok (.iconst (-1), 1) := dk_2 (dk_at dksX11_laysArrived_2 9 rfl rfl)
theorem dX11_laysArrived_57 : decode cX11_laysArrived 57 = .ok (.if_icmp .ne 9, 3) := dk_160 0 9 (dk_at dksX11_laysArrived_2 10 rfl rfl)
theorem dX11_laysArrived_60 : decode cX11_laysArrived 60 = .ok (.sipush 1000, 3) := dk_17 3 232 (dk_at dksX11_laysArrived_2 13 rfl rfl)
theorem dX11_laysArrived_63 : decode cX11_laysArrived 63 = .ok (.goto 13, 3) := dk_167 0 13 (dk_at dksX11_laysArrived_2 16 rfl rfl)
theorem dX11_laysArrived_66 : decode cX11_laysArrived 66 = .ok (.aload_n 0, 1) := dk_42 (dk_at dksX11_laysArrived_2 19 rfl rfl)
theorem dX11_laysArrived_67 : decode cX11_laysArrived 67 = .ok (.getfield 111, 3) := dk_180 0 111 (dk_at dksX11_laysArrived_2 20 rfl rfl)
theorem dX11_laysArrived_70 : decode cX11_laysArrived 70 = .ok (.sipush 144, 3) := dk_17 0 144 (dk_at dksX11_laysArrived_3 0 rfl rfl)
theorem dX11_laysArrived_73 : decode cX11_laysArrived 73 = .ok (.iload_n 3, 1) := dk_29 (dk_at dksX11_laysArrived_3 3 rfl rfl)
theorem dX11_laysArrived_74 : decode cX11_laysArrived 74 = .ok (.iadd, 1) := dk_96 (dk_at dksX11_laysArrived_3 4 rfl rfl)
theorem dX11_laysArrived_75 : decode cX11_laysArrived 75 = .ok (.iaload, 1) := dk_46 (dk_at dksX11_laysArrived_3 5 rfl rfl)
theorem dX11_laysArrived_76 : decode cX11_laysArrived 76 = .ok (.iastore, 1) := dk_79 (dk_at dksX11_laysArrived_3 6 rfl rfl)
theorem dX11_laysArrived_77 : decode cX11_laysArrived 77 = .ok (.iinc 3 1, 3) := dk_132 3 1 (dk_at dksX11_laysArrived_3 7 rfl rfl)
theorem dX11_laysArrived_80 : decode cX11_laysArrived 80 = .ok (.goto (-50), 3) := dk_167 255 206 (dk_at dksX11_laysArrived_3 10 rfl rfl)
theorem dX11_laysArrived_83 : decode cX11_laysArrived 83 = .ok (.aload_n 0, 1) := dk_42 (dk_at dksX11_laysArrived_3 13 rfl rfl)
theorem dX11_laysArrived_84 : decode cX11_laysArrived 84 = .ok (.getfield 132, 3) := dk_180 0 132 (dk_at dksX11_laysArrived_3 14 rfl rfl)
theorem dX11_laysArrived_87 : decode cX11_laysArrived 87 = .ok (.iload_n 2, 1) := dk_28 (dk_at dksX11_laysArrived_3 17 rfl rfl)
theorem dX11_laysArrived_88 : decode cX11_laysArrived 88 = .ok (.aload_n 0, 1) := dk_42 (dk_at dksX11_laysArrived_3 18 rfl rfl)
theorem dX11_laysArrived_89 : decode cX11_laysArrived 89 = .ok (.iload_n 2, 1) := dk_28 (dk_at dksX11_laysArrived_3 19 rfl rfl)
theorem dX11_laysArrived_90 : decode cX11_laysArrived 90 = .ok (.invokevirtual 625, 3) := dk_182 2 113 (dk_at dksX11_laysArrived_3 20 rfl rfl)
theorem dX11_laysArrived_93 : decode cX11_laysArrived 93 = .ok (.bastore, 1) := dk_84 (dk_at dksX11_laysArrived_3 23 rfl rfl)
theorem dX11_laysArrived_94 : decode cX11_laysArrived 94 = .ok (.aload_n 0, 1) := dk_42 (dk_at dksX11_laysArrived_4 0 rfl rfl)
theorem dX11_laysArrived_95 : decode cX11_laysArrived 95 = .ok (.getfield 132, 3) := dk_180 0 132 (dk_at dksX11_laysArrived_4 1 rfl rfl)
theorem dX11_laysArrived_98 : decode cX11_laysArrived 98 = .ok (.iload_n 2, 1) := dk_28 (dk_at dksX11_laysArrived_4 4 rfl rfl)
theorem dX11_laysArrived_99 : decode cX11_laysArrived 99 = .ok (.baload, 1) := dk_51 (dk_at dksX11_laysArrived_4 5 rfl rfl)
theorem dX11_laysArrived_100 : decode cX11_laysArrived 100 = .ok (.ifCond .eq 13, 3) := dk_153 0 13 (dk_at dksX11_laysArrived_4 6 rfl rfl)
theorem dX11_laysArrived_103 : decode cX11_laysArrived 103 = .ok (.aload_n 0, 1) := dk_42 (dk_at dksX11_laysArrived_4 9 rfl rfl)
theorem dX11_laysArrived_104 : decode cX11_laysArrived 104 = .ok (.dup, 1) := dk_89 (dk_at dksX11_laysArrived_4 10 rfl rfl)
theorem dX11_laysArrived_105 : decode cX11_laysArrived 105 = .ok (.getfield 622, 3) := dk_180 2 110 (dk_at dksX11_laysArrived_4 11 rfl rfl)
theorem dX11_laysArrived_108 : decode cX11_laysArrived 108 = .ok (.iconst 1, 1) := dk_4 (dk_at dksX11_laysArrived_4 14 rfl rfl)
theorem dX11_laysArrived_109 : decode cX11_laysArrived 109 = .ok (.iadd, 1) := dk_96 (dk_at dksX11_laysArrived_4 15 rfl rfl)
theorem dX11_laysArrived_110 : decode cX11_laysArrived 110 = .ok (.putfield 622, 3) := dk_181 2 110 (dk_at dksX11_laysArrived_4 16 rfl rfl)
theorem dX11_laysArrived_113 : decode cX11_laysArrived 113 = .ok (.aload_n 0, 1) := dk_42 (dk_at dksX11_laysArrived_4 19 rfl rfl)
theorem dX11_laysArrived_114 : decode cX11_laysArrived 114 = .ok (.invokevirtual 491, 3) := dk_182 1 235 (dk_at dksX11_laysArrived_4 20 rfl rfl)
theorem dX11_laysArrived_117 : decode cX11_laysArrived 117 = .ok (.iinc 2 1, 3) := dk_132 2 1 (dk_at dksX11_laysArrived_5 0 rfl rfl)
theorem dX11_laysArrived_120 : decode cX11_laysArrived 120 = .ok (.goto (-102), 3) := dk_167 255 154 (dk_at dksX11_laysArrived_5 3 rfl rfl)
theorem dX11_laysArrived_123 : decode cX11_laysArrived 123 = .ok (.aload_n 0, 1) := dk_42 (dk_at dksX11_laysArrived_5 6 rfl rfl)
theorem dX11_laysArrived_124 : decode cX11_laysArrived 124 = .ok (.invokevirtual 597, 3) := dk_182 2 85 (dk_at dksX11_laysArrived_5 7 rfl rfl)
theorem dX11_laysArrived_127 : decode cX11_laysArrived 127 = .ok (.return_, 1) := dk_177 (dk_at dksX11_laysArrived_5 10 rfl rfl)
abbrev cX11_isAsSeen : ByteArray := prog_26_method_102_code
def yX11_isAsSeen : MethodName := ⟨RX11, "isAsSeen", "(I)Z"⟩
def dkwX11_isAsSeen_2 : List UInt8 := [167, 255, 212, 4, 172]
abbrev dktX11_isAsSeen_2 : List UInt8 := dkwX11_isAsSeen_2 ++ []
def dkwX11_isAsSeen_1 : List UInt8 := [104, 46, 96, 46, 42, 180, 0, 129, 5, 28, 104, 4, 96, 46, 159, 0, 5, 3, 172, 132, 2, 1]
abbrev dktX11_isAsSeen_1 : List UInt8 := dkwX11_isAsSeen_1 ++ dktX11_isAsSeen_2
def dkwX11_isAsSeen_0 : List UInt8 := [3, 61, 28, 42, 180, 1, 94, 162, 0, 42, 42, 180, 0, 136, 16, 16, 27, 104, 42, 180, 0, 129, 5, 28]
abbrev dktX11_isAsSeen_0 : List UInt8 := dkwX11_isAsSeen_0 ++ dktX11_isAsSeen_1
theorem dksX11_isAsSeen_0 : cX11_isAsSeen.data.toList.drop 0 = dktX11_isAsSeen_0 := by decide +kernel
theorem dksX11_isAsSeen_1 : cX11_isAsSeen.data.toList.drop 24 = dktX11_isAsSeen_1 := dk_seg dksX11_isAsSeen_0 24 rfl rfl
theorem dksX11_isAsSeen_2 : cX11_isAsSeen.data.toList.drop 46 = dktX11_isAsSeen_2 := dk_seg dksX11_isAsSeen_1 22 rfl rfl
theorem dX11_isAsSeen_0 : decode cX11_isAsSeen 0 = .ok (.iconst 0, 1) := dk_3 (dk_at dksX11_isAsSeen_0 0 rfl rfl)
theorem dX11_isAsSeen_1 : decode cX11_isAsSeen 1 = .ok (.istore_n 2, 1) := dk_61 (dk_at dksX11_isAsSeen_0 1 rfl rfl)
theorem dX11_isAsSeen_2 : decode cX11_isAsSeen 2 = .ok (.iload_n 2, 1) := dk_28 (dk_at dksX11_isAsSeen_0 2 rfl rfl)
theorem dX11_isAsSeen_3 : decode cX11_isAsSeen 3 = .ok (.aload_n 0, 1) := dk_42 (dk_at dksX11_isAsSeen_0 3 rfl rfl)
theorem dX11_isAsSeen_4 : decode cX11_isAsSeen 4 = .ok (.getfield 350, 3) := dk_180 1 94 (dk_at dksX11_isAsSeen_0 4 rfl rfl)
theorem dX11_isAsSeen_7 : decode cX11_isAsSeen 7 = .ok (.if_icmp .ge 42, 3) := dk_162 0 42 (dk_at dksX11_isAsSeen_0 7 rfl rfl)
theorem dX11_isAsSeen_10 : decode cX11_isAsSeen 10 = .ok (.aload_n 0, 1) := dk_42 (dk_at dksX11_isAsSeen_0 10 rfl rfl)
theorem dX11_isAsSeen_11 : decode cX11_isAsSeen 11 = .ok (.getfield 136, 3) := dk_180 0 136 (dk_at dksX11_isAsSeen_0 11 rfl rfl)
theorem dX11_isAsSeen_14 : decode cX11_isAsSeen 14 = .ok (.bipush 16, 2) := dk_16 16 (dk_at dksX11_isAsSeen_0 14 rfl rfl)
theorem dX11_isAsSeen_16 : decode cX11_isAsSeen 16 = .ok (.iload_n 1, 1) := dk_27 (dk_at dksX11_isAsSeen_0 16 rfl rfl)
theorem dX11_isAsSeen_17 : decode cX11_isAsSeen 17 = .ok (.imul, 1) := dk_104 (dk_at dksX11_isAsSeen_0 17 rfl rfl)
theorem dX11_isAsSeen_18 : decode cX11_isAsSeen 18 = .ok (.aload_n 0, 1) := dk_42 (dk_at dksX11_isAsSeen_0 18 rfl rfl)
theorem dX11_isAsSeen_19 : decode cX11_isAsSeen 19 = .ok (.getfield 129, 3) := dk_180 0 129 (dk_at dksX11_isAsSeen_0 19 rfl rfl)
theorem dX11_isAsSeen_22 : decode cX11_isAsSeen 22 = .ok (.iconst 2, 1) := dk_5 (dk_at dksX11_isAsSeen_0 22 rfl rfl)
theorem dX11_isAsSeen_23 : decode cX11_isAsSeen 23 = .ok (.iload_n 2, 1) := dk_28 (dk_at dksX11_isAsSeen_0 23 rfl rfl)
theorem dX11_isAsSeen_24 : decode cX11_isAsSeen 24 = .ok (.imul, 1) := dk_104 (dk_at dksX11_isAsSeen_1 0 rfl rfl)
theorem dX11_isAsSeen_25 : decode cX11_isAsSeen 25 = .ok (.iaload, 1) := dk_46 (dk_at dksX11_isAsSeen_1 1 rfl rfl)
theorem dX11_isAsSeen_26 : decode cX11_isAsSeen 26 = .ok (.iadd, 1) := dk_96 (dk_at dksX11_isAsSeen_1 2 rfl rfl)
theorem dX11_isAsSeen_27 : decode cX11_isAsSeen 27 = .ok (.iaload, 1) := dk_46 (dk_at dksX11_isAsSeen_1 3 rfl rfl)
theorem dX11_isAsSeen_28 : decode cX11_isAsSeen 28 = .ok (.aload_n 0, 1) := dk_42 (dk_at dksX11_isAsSeen_1 4 rfl rfl)
theorem dX11_isAsSeen_29 : decode cX11_isAsSeen 29 = .ok (.getfield 129, 3) := dk_180 0 129 (dk_at dksX11_isAsSeen_1 5 rfl rfl)
theorem dX11_isAsSeen_32 : decode cX11_isAsSeen 32 = .ok (.iconst 2, 1) := dk_5 (dk_at dksX11_isAsSeen_1 8 rfl rfl)
theorem dX11_isAsSeen_33 : decode cX11_isAsSeen 33 = .ok (.iload_n 2, 1) := dk_28 (dk_at dksX11_isAsSeen_1 9 rfl rfl)
theorem dX11_isAsSeen_34 : decode cX11_isAsSeen 34 = .ok (.imul, 1) := dk_104 (dk_at dksX11_isAsSeen_1 10 rfl rfl)
theorem dX11_isAsSeen_35 : decode cX11_isAsSeen 35 = .ok (.iconst 1, 1) := dk_4 (dk_at dksX11_isAsSeen_1 11 rfl rfl)
theorem dX11_isAsSeen_36 : decode cX11_isAsSeen 36 = .ok (.iadd, 1) := dk_96 (dk_at dksX11_isAsSeen_1 12 rfl rfl)
theorem dX11_isAsSeen_37 : decode cX11_isAsSeen 37 = .ok (.iaload, 1) := dk_46 (dk_at dksX11_isAsSeen_1 13 rfl rfl)
theorem dX11_isAsSeen_38 : decode cX11_isAsSeen 38 = .ok (.if_icmp .eq 5, 3) := dk_159 0 5 (dk_at dksX11_isAsSeen_1 14 rfl rfl)
theorem dX11_isAsSeen_41 : decode cX11_isAsSeen 41 = .ok (.iconst 0, 1) := dk_3 (dk_at dksX11_isAsSeen_1 17 rfl rfl)
theorem dX11_isAsSeen_42 : decode cX11_isAsSeen 42 = .ok (.ireturn, 1) := dk_172 (dk_at dksX11_isAsSeen_1 18 rfl rfl)
theorem dX11_isAsSeen_43 : decode cX11_isAsSeen 43 = .ok (.iinc 2 1, 3) := dk_132 2 1 (dk_at dksX11_isAsSeen_1 19 rfl rfl)
theorem dX11_isAsSeen_46 : decode cX11_isAsSeen 46 = .ok (.goto (-44), 3) := dk_167 255 212 (dk_at dksX11_isAsSeen_2 0 rfl rfl)
theorem dX11_isAsSeen_49 : decode cX11_isAsSeen 49 = .ok (.iconst 1, 1) := dk_4 (dk_at dksX11_isAsSeen_2 3 rfl rfl)
theorem dX11_isAsSeen_50 : decode cX11_isAsSeen 50 = .ok (.ireturn, 1) := dk_172 (dk_at dksX11_isAsSeen_2 4 rfl rfl)
abbrev cX11_tells : ByteArray := prog_26_method_106_code
def yX11_tells : MethodName := ⟨RX11, "tells", "(I)I"⟩
def dkwX11_tells_4 : List UInt8 := [29, 172]
abbrev dktX11_tells_4 : List UInt8 := dkwX11_tells_4 ++ []
def dkwX11_tells_3 : List UInt8 := [62, 132, 4, 1, 167, 255, 211, 28, 2, 160, 0, 7, 2, 167, 0, 12, 27, 154, 0, 7, 28, 167, 0, 4]
abbrev dktX11_tells_3 : List UInt8 := dkwX11_tells_3 ++ dktX11_tells_4
def dkwX11_tells_2 : List UInt8 := [182, 2, 119, 54, 5, 28, 2, 159, 0, 12, 21, 5, 29, 161, 0, 6, 167, 0, 9, 21, 4, 61, 21, 5]
abbrev dktX11_tells_2 : List UInt8 := dkwX11_tells_2 ++ dktX11_tells_3
def dkwX11_tells_1 : List UInt8 := [61, 3, 62, 3, 54, 4, 21, 4, 16, 16, 162, 0, 44, 42, 180, 2, 110, 158, 0, 37, 42, 21, 4]
abbrev dktX11_tells_1 : List UInt8 := dkwX11_tells_1 ++ dktX11_tells_2
def dkwX11_tells_0 : List UInt8 := [42, 180, 1, 84, 153, 0, 13, 27, 133, 9, 10, 184, 1, 19, 154, 0, 5, 2, 172, 42, 182, 2, 116, 2]
abbrev dktX11_tells_0 : List UInt8 := dkwX11_tells_0 ++ dktX11_tells_1
theorem dksX11_tells_0 : cX11_tells.data.toList.drop 0 = dktX11_tells_0 := by decide +kernel
theorem dksX11_tells_1 : cX11_tells.data.toList.drop 24 = dktX11_tells_1 := dk_seg dksX11_tells_0 24 rfl rfl
theorem dksX11_tells_2 : cX11_tells.data.toList.drop 47 = dktX11_tells_2 := dk_seg dksX11_tells_1 23 rfl rfl
theorem dksX11_tells_3 : cX11_tells.data.toList.drop 71 = dktX11_tells_3 := dk_seg dksX11_tells_2 24 rfl rfl
theorem dksX11_tells_4 : cX11_tells.data.toList.drop 95 = dktX11_tells_4 := dk_seg dksX11_tells_3 24 rfl rfl
theorem dX11_tells_0 : decode cX11_tells 0 = .ok (.aload_n 0, 1) := dk_42 (dk_at dksX11_tells_0 0 rfl rfl)
theorem dX11_tells_1 : decode cX11_tells 1 = .ok (.getfield 340, 3) := dk_180 1 84 (dk_at dksX11_tells_0 1 rfl rfl)
theorem dX11_tells_4 : decode cX11_tells 4 = .ok (.ifCond .eq 13, 3) := dk_153 0 13 (dk_at dksX11_tells_0 4 rfl rfl)
theorem dX11_tells_7 : decode cX11_tells 7 = .ok (.iload_n 1, 1) := dk_27 (dk_at dksX11_tells_0 7 rfl rfl)
theorem dX11_tells_8 : decode cX11_tells 8 = .ok (.i2l, 1) := dk_133 (dk_at dksX11_tells_0 8 rfl rfl)
theorem dX11_tells_9 : decode cX11_tells 9 = .ok (.lconst 0, 1) := dk_9 (dk_at dksX11_tells_0 9 rfl rfl)
theorem dX11_tells_10 : decode cX11_tells 10 = .ok (.lconst 1, 1) := dk_10 (dk_at dksX11_tells_0 10 rfl rfl)
theorem dX11_tells_11 : decode cX11_tells 11 = .ok (.invokestatic 275, 3) := dk_184 1 19 (dk_at dksX11_tells_0 11 rfl rfl)
theorem dX11_tells_14 : decode cX11_tells 14 = .ok (.ifCond .ne 5, 3) := dk_154 0 5 (dk_at dksX11_tells_0 14 rfl rfl)
theorem dX11_tells_17 : decode cX11_tells 17 = .ok (.iconst (-1), 1) := dk_2 (dk_at dksX11_tells_0 17 rfl rfl)
theorem dX11_tells_18 : decode cX11_tells 18 = .ok (.ireturn, 1) := dk_172 (dk_at dksX11_tells_0 18 rfl rfl)
theorem dX11_tells_19 : decode cX11_tells 19 = .ok (.aload_n 0, 1) := dk_42 (dk_at dksX11_tells_0 19 rfl rfl)
theorem dX11_tells_20 : decode cX11_tells 20 = .ok (.invokevirtual 628, 3) := dk_182 2 116 (dk_at dksX11_tells_0 20 rfl rfl)
theorem dX11_tells_23 : decode cX11_tells 23 = .ok (.iconst (-1), 1) := dk_2 (dk_at dksX11_tells_0 23 rfl rfl)
theorem dX11_tells_24 : decode cX11_tells 24 = .ok (.istore_n 2, 1) := dk_61 (dk_at dksX11_tells_1 0 rfl rfl)
theorem dX11_tells_25 : decode cX11_tells 25 = .ok (.iconst 0, 1) := dk_3 (dk_at dksX11_tells_1 1 rfl rfl)
theorem dX11_tells_26 : decode cX11_tells 26 = .ok (.istore_n 3, 1) := dk_62 (dk_at dksX11_tells_1 2 rfl rfl)
theorem dX11_tells_27 : decode cX11_tells 27 = .ok (.iconst 0, 1) := dk_3 (dk_at dksX11_tells_1 3 rfl rfl)
theorem dX11_tells_28 : decode cX11_tells 28 = .ok (.istore 4, 2) := dk_54 4 (dk_at dksX11_tells_1 4 rfl rfl)
theorem dX11_tells_30 : decode cX11_tells 30 = .ok (.iload 4, 2) := dk_21 4 (dk_at dksX11_tells_1 6 rfl rfl)
theorem dX11_tells_32 : decode cX11_tells 32 = .ok (.bipush 16, 2) := dk_16 16 (dk_at dksX11_tells_1 8 rfl rfl)
theorem dX11_tells_34 : decode cX11_tells 34 = .ok (.if_icmp .ge 44, 3) := dk_162 0 44 (dk_at dksX11_tells_1 10 rfl rfl)
theorem dX11_tells_37 : decode cX11_tells 37 = .ok (.aload_n 0, 1) := dk_42 (dk_at dksX11_tells_1 13 rfl rfl)
theorem dX11_tells_38 : decode cX11_tells 38 = .ok (.getfield 622, 3) := dk_180 2 110 (dk_at dksX11_tells_1 14 rfl rfl)
theorem dX11_tells_41 : decode cX11_tells 41 = .ok (.ifCond .le 37, 3) := dk_158 0 37 (dk_at dksX11_tells_1 17 rfl rfl)
theorem dX11_tells_44 : decode cX11_tells 44 = .ok (.aload_n 0, 1) := dk_42 (dk_at dksX11_tells_1 20 rfl rfl)
theorem dX11_tells_45 : decode cX11_tells 45 = .ok (.iload 4, 2) := dk_21 4 (dk_at dksX11_tells_1 21 rfl rfl)
theorem dX11_tells_47 : decode cX11_tells 47 = .ok (.invokevirtual 631, 3) := dk_182 2 119 (dk_at dksX11_tells_2 0 rfl rfl)
theorem dX11_tells_50 : decode cX11_tells 50 = .ok (.istore 5, 2) := dk_54 5 (dk_at dksX11_tells_2 3 rfl rfl)
theorem dX11_tells_52 : decode cX11_tells 52 = .ok (.iload_n 2, 1) := dk_28 (dk_at dksX11_tells_2 5 rfl rfl)
theorem dX11_tells_53 : decode cX11_tells 53 = .ok (.iconst (-1), 1) := dk_2 (dk_at dksX11_tells_2 6 rfl rfl)
theorem dX11_tells_54 : decode cX11_tells 54 = .ok (.if_icmp .eq 12, 3) := dk_159 0 12 (dk_at dksX11_tells_2 7 rfl rfl)
theorem dX11_tells_57 : decode cX11_tells 57 = .ok (.iload 5, 2) := dk_21 5 (dk_at dksX11_tells_2 10 rfl rfl)
theorem dX11_tells_59 : decode cX11_tells 59 = .ok (.iload_n 3, 1) := dk_29 (dk_at dksX11_tells_2 12 rfl rfl)
theorem dX11_tells_60 : decode cX11_tells 60 = .ok (.if_icmp .lt 6, 3) := dk_161 0 6 (dk_at dksX11_tells_2 13 rfl rfl)
theorem dX11_tells_63 : decode cX11_tells 63 = .ok (.goto 9, 3) := dk_167 0 9 (dk_at dksX11_tells_2 16 rfl rfl)
theorem dX11_tells_66 : decode cX11_tells 66 = .ok (.iload 4, 2) := dk_21 4 (dk_at dksX11_tells_2 19 rfl rfl)
theorem dX11_tells_68 : decode cX11_tells 68 = .ok (.istore_n 2, 1) := dk_61 (dk_at dksX11_tells_2 21 rfl rfl)
theorem dX11_tells_69 : decode cX11_tells 69 = .ok (.iload 5, 2) := dk_21 5 (dk_at dksX11_tells_2 22 rfl rfl)
theorem dX11_tells_71 : decode cX11_tells 71 = .ok (.istore_n 3, 1) := dk_62 (dk_at dksX11_tells_3 0 rfl rfl)
theorem dX11_tells_72 : decode cX11_tells 72 = .ok (.iinc 4 1, 3) := dk_132 4 1 (dk_at dksX11_tells_3 1 rfl rfl)
theorem dX11_tells_75 : decode cX11_tells 75 = .ok (.goto (-45), 3) := dk_167 255 211 (dk_at dksX11_tells_3 4 rfl rfl)
theorem dX11_tells_78 : decode cX11_tells 78 = .ok (.iload_n 2, 1) := dk_28 (dk_at dksX11_tells_3 7 rfl rfl)
theorem dX11_tells_79 : decode cX11_tells 79 = .ok (.iconst (-1), 1) := dk_2 (dk_at dksX11_tells_3 8 rfl rfl)
theorem dX11_tells_80 : decode cX11_tells 80 = .ok (.if_icmp .ne 7, 3) := dk_160 0 7 (dk_at dksX11_tells_3 9 rfl rfl)
theorem dX11_tells_83 : decode cX11_tells 83 = .ok (.iconst (-1), 1) := dk_2 (dk_at dksX11_tells_3 12 rfl rfl)
theorem dX11_tells_84 : decode cX11_tells 84 = .ok (.goto 12, 3) := dk_167 0 12 (dk_at dksX11_tells_3 13 rfl rfl)
theorem dX11_tells_87 : decode cX11_tells 87 = .ok (.iload_n 1, 1) := dk_27 (dk_at dksX11_tells_3 16 rfl rfl)
theorem dX11_tells_88 : decode cX11_tells 88 = .ok (.ifCond .ne 7, 3) := dk_154 0 7 (dk_at dksX11_tells_3 17 rfl rfl)
theorem dX11_tells_91 : decode cX11_tells 91 = .ok (.iload_n 2, 1) := dk_28 (dk_at dksX11_tells_3 20 rfl rfl)
theorem dX11_tells_92 : decode cX11_tells 92 = .ok (.goto 4, 3) := dk_167 0 4 (dk_at dksX11_tells_3 21 rfl rfl)
theorem dX11_tells_95 : decode cX11_tells 95 = .ok (.iload_n 3, 1) := dk_29 (dk_at dksX11_tells_4 0 rfl rfl)
theorem dX11_tells_96 : decode cX11_tells 96 = .ok (.ireturn, 1) := dk_172 (dk_at dksX11_tells_4 1 rfl rfl)
abbrev cX11_mostAlike : ByteArray := prog_26_method_105_code
def yX11_mostAlike : MethodName := ⟨RX11, "mostAlike", "(I)I"⟩
def dkwX11_mostAlike_4 : List UInt8 := [167, 255, 188, 28, 172]
abbrev dktX11_mostAlike_4 : List UInt8 := dkwX11_mostAlike_4 ++ []
def dkwX11_mostAlike_3 : List UInt8 := [42, 180, 0, 139, 21, 4, 46, 28, 164, 0, 11, 42, 180, 0, 139, 21, 4, 46, 61, 132, 3, 1]
abbrev dktX11_mostAlike_3 : List UInt8 := dkwX11_mostAlike_3 ++ dktX11_mostAlike_4
def dkwX11_mostAlike_2 : List UInt8 := [42, 180, 0, 136, 16, 16, 29, 104, 27, 96, 46, 54, 4, 42, 180, 0, 139, 21, 4, 92, 46, 4, 96, 79]
abbrev dktX11_mostAlike_2 : List UInt8 := dkwX11_mostAlike_2 ++ dktX11_mostAlike_3
def dkwX11_mostAlike_1 : List UInt8 := [3, 62, 29, 42, 180, 0, 111, 7, 46, 163, 0, 64, 42, 180, 0, 132, 29, 51, 154, 0, 6, 167, 0, 46]
abbrev dktX11_mostAlike_1 : List UInt8 := dkwX11_mostAlike_1 ++ dktX11_mostAlike_2
def dkwX11_mostAlike_0 : List UInt8 := [3, 61, 3, 62, 29, 17, 3, 232, 163, 0, 16, 42, 180, 0, 139, 29, 3, 79, 132, 3, 1, 167, 255, 239]
abbrev dktX11_mostAlike_0 : List UInt8 := dkwX11_mostAlike_0 ++ dktX11_mostAlike_1
theorem dksX11_mostAlike_0 : cX11_mostAlike.data.toList.drop 0 = dktX11_mostAlike_0 := by decide +kernel
theorem dksX11_mostAlike_1 : cX11_mostAlike.data.toList.drop 24 = dktX11_mostAlike_1 := dk_seg dksX11_mostAlike_0 24 rfl rfl
theorem dksX11_mostAlike_2 : cX11_mostAlike.data.toList.drop 48 = dktX11_mostAlike_2 := dk_seg dksX11_mostAlike_1 24 rfl rfl
theorem dksX11_mostAlike_3 : cX11_mostAlike.data.toList.drop 72 = dktX11_mostAlike_3 := dk_seg dksX11_mostAlike_2 24 rfl rfl
theorem dksX11_mostAlike_4 : cX11_mostAlike.data.toList.drop 94 = dktX11_mostAlike_4 := dk_seg dksX11_mostAlike_3 22 rfl rfl
theorem dX11_mostAlike_0 : decode cX11_mostAlike 0 = .ok (.iconst 0, 1) := dk_3 (dk_at dksX11_mostAlike_0 0 rfl rfl)
theorem dX11_mostAlike_1 : decode cX11_mostAlike 1 = .ok (.istore_n 2, 1) := dk_61 (dk_at dksX11_mostAlike_0 1 rfl rfl)
theorem dX11_mostAlike_2 : decode cX11_mostAlike 2 = .ok (.iconst 0, 1) := dk_3 (dk_at dksX11_mostAlike_0 2 rfl rfl)
theorem dX11_mostAlike_3 : decode cX11_mostAlike 3 = .ok (.istore_n 3, 1) := dk_62 (dk_at dksX11_mostAlike_0 3 rfl rfl)
theorem dX11_mostAlike_4 : decode cX11_mostAlike 4 = .ok (.iload_n 3, 1) := dk_29 (dk_at dksX11_mostAlike_0 4 rfl rfl)
theorem dX11_mostAlike_5 : decode cX11_mostAlike 5 = .ok (.sipush 1000, 3) := dk_17 3 232 (dk_at dksX11_mostAlike_0 5 rfl rfl)
theorem dX11_mostAlike_8 : decode cX11_mostAlike 8 = .ok (.if_icmp .gt 16, 3) := dk_163 0 16 (dk_at dksX11_mostAlike_0 8 rfl rfl)
theorem dX11_mostAlike_11 : decode cX11_mostAlike 11 = .ok (.aload_n 0, 1) := dk_42 (dk_at dksX11_mostAlike_0 11 rfl rfl)
theorem dX11_mostAlike_12 : decode cX11_mostAlike 12 = .ok (.getfield 139, 3) := dk_180 0 139 (dk_at dksX11_mostAlike_0 12 rfl rfl)
theorem dX11_mostAlike_15 : decode cX11_mostAlike 15 = .ok (.iload_n 3, 1) := dk_29 (dk_at dksX11_mostAlike_0 15 rfl rfl)
theorem dX11_mostAlike_16 : decode cX11_mostAlike 16 = .ok (.iconst 0, 1) := dk_3 (dk_at dksX11_mostAlike_0 16 rfl rfl)
theorem dX11_mostAlike_17 : decode cX11_mostAlike 17 = .ok (.iastore, 1) := dk_79 (dk_at dksX11_mostAlike_0 17 rfl rfl)
theorem dX11_mostAlike_18 : decode cX11_mostAlike 18 = .ok (.iinc 3 1, 3) := dk_132 3 1 (dk_at dksX11_mostAlike_0 18 rfl rfl)
theorem dX11_mostAlike_21 : decode cX11_mostAlike 21 = .ok (.goto (-17), 3) := dk_167 255 239 (dk_at dksX11_mostAlike_0 21 rfl rfl)
theorem dX11_mostAlike_24 : decode cX11_mostAlike 24 = .ok (.iconst 0, 1) := dk_3 (dk_at dksX11_mostAlike_1 0 rfl rfl)
theorem dX11_mostAlike_25 : decode cX11_mostAlike 25 = .ok (.istore_n 3, 1) := dk_62 (dk_at dksX11_mostAlike_1 1 rfl rfl)
theorem dX11_mostAlike_26 : decode cX11_mostAlike 26 = .ok (.iload_n 3, 1) := dk_29 (dk_at dksX11_mostAlike_1 2 rfl rfl)
theorem dX11_mostAlike_27 : decode cX11_mostAlike 27 = .ok (.aload_n 0, 1) := dk_42 (dk_at dksX11_mostAlike_1 3 rfl rfl)
theorem dX11_mostAlike_28 : decode cX11_mostAlike 28 = .ok (.getfield 111, 3) := dk_180 0 111 (dk_at dksX11_mostAlike_1 4 rfl rfl)
theorem dX11_mostAlike_31 : decode cX11_mostAlike 31 = .ok (.iconst 4, 1) := dk_7 (dk_at dksX11_mostAlike_1 7 rfl rfl)
theorem dX11_mostAlike_32 : decode cX11_mostAlike 32 = .ok (.iaload, 1) := dk_46 (dk_at dksX11_mostAlike_1 8 rfl rfl)
theorem dX11_mostAlike_33 : decode cX11_mostAlike 33 = .ok (.if_icmp .gt 64, 3) := dk_163 0 64 (dk_at dksX11_mostAlike_1 9 rfl rfl)
theorem dX11_mostAlike_36 : decode cX11_mostAlike 36 = .ok (.aload_n 0, 1) := dk_42 (dk_at dksX11_mostAlike_1 12 rfl rfl)
theorem dX11_mostAlike_37 : decode cX11_mostAlike 37 = .ok (.getfield 132, 3) := dk_180 0 132 (dk_at dksX11_mostAlike_1 13 rfl rfl)
theorem dX11_mostAlike_40 : decode cX11_mostAlike 40 = .ok (.iload_n 3, 1) := dk_29 (dk_at dksX11_mostAlike_1 16 rfl rfl)
theorem dX11_mostAlike_41 : decode cX11_mostAlike 41 = .ok (.baload, 1) := dk_51 (dk_at dksX11_mostAlike_1 17 rfl rfl)
theorem dX11_mostAlike_42 : decode cX11_mostAlike 42 = .ok (.ifCond .ne 6, 3) := dk_154 0 6 (dk_at dksX11_mostAlike_1 18 rfl rfl)
theorem dX11_mostAlike_45 : decode cX11_mostAlike 45 = .ok (.goto 46, 3) := dk_167 0 46 (dk_at dksX11_mostAlike_1 21 rfl rfl)
theorem dX11_mostAlike_48 : decode cX11_mostAlike 48 = .ok (.aload_n 0, 1) := dk_42 (dk_at dksX11_mostAlike_2 0 rfl rfl)
theorem dX11_mostAlike_49 : decode cX11_mostAlike 49 = .ok (.getfield 136, 3) := dk_180 0 136 (dk_at dksX11_mostAlike_2 1 rfl rfl)
theorem dX11_mostAlike_52 : decode cX11_mostAlike 52 = .ok (.bipush 16, 2) := dk_16 16 (dk_at dksX11_mostAlike_2 4 rfl rfl)
theorem dX11_mostAlike_54 : decode cX11_mostAlike 54 = .ok (.iload_n 3, 1) := dk_29 (dk_at dksX11_mostAlike_2 6 rfl rfl)
theorem dX11_mostAlike_55 : decode cX11_mostAlike 55 = .ok (.imul, 1) := dk_104 (dk_at dksX11_mostAlike_2 7 rfl rfl)
theorem dX11_mostAlike_56 : decode cX11_mostAlike 56 = .ok (.iload_n 1, 1) := dk_27 (dk_at dksX11_mostAlike_2 8 rfl rfl)
theorem dX11_mostAlike_57 : decode cX11_mostAlike 57 = .ok (.iadd, 1) := dk_96 (dk_at dksX11_mostAlike_2 9 rfl rfl)
theorem dX11_mostAlike_58 : decode cX11_mostAlike 58 = .ok (.iaload, 1) := dk_46 (dk_at dksX11_mostAlike_2 10 rfl rfl)
theorem dX11_mostAlike_59 : decode cX11_mostAlike 59 = .ok (.istore 4, 2) := dk_54 4 (dk_at dksX11_mostAlike_2 11 rfl rfl)
theorem dX11_mostAlike_61 : decode cX11_mostAlike 61 = .ok (.aload_n 0, 1) := dk_42 (dk_at dksX11_mostAlike_2 13 rfl rfl)
theorem dX11_mostAlike_62 : decode cX11_mostAlike 62 = .ok (.getfield 139, 3) := dk_180 0 139 (dk_at dksX11_mostAlike_2 14 rfl rfl)
theorem dX11_mostAlike_65 : decode cX11_mostAlike 65 = .ok (.iload 4, 2) := dk_21 4 (dk_at dksX11_mostAlike_2 17 rfl rfl)
theorem dX11_mostAlike_67 : decode cX11_mostAlike 67 = .ok (.dup2, 1) := dk_92 (dk_at dksX11_mostAlike_2 19 rfl rfl)
theorem dX11_mostAlike_68 : decode cX11_mostAlike 68 = .ok (.iaload, 1) := dk_46 (dk_at dksX11_mostAlike_2 20 rfl rfl)
theorem dX11_mostAlike_69 : decode cX11_mostAlike 69 = .ok (.iconst 1, 1) := dk_4 (dk_at dksX11_mostAlike_2 21 rfl rfl)
theorem dX11_mostAlike_70 : decode cX11_mostAlike 70 = .ok (.iadd, 1) := dk_96 (dk_at dksX11_mostAlike_2 22 rfl rfl)
theorem dX11_mostAlike_71 : decode cX11_mostAlike 71 = .ok (.iastore, 1) := dk_79 (dk_at dksX11_mostAlike_2 23 rfl rfl)
theorem dX11_mostAlike_72 : decode cX11_mostAlike 72 = .ok (.aload_n 0, 1) := dk_42 (dk_at dksX11_mostAlike_3 0 rfl rfl)
theorem dX11_mostAlike_73 : decode cX11_mostAlike 73 = .ok (.getfield 139, 3) := dk_180 0 139 (dk_at dksX11_mostAlike_3 1 rfl rfl)
theorem dX11_mostAlike_76 : decode cX11_mostAlike 76 = .ok (.iload 4, 2) := dk_21 4 (dk_at dksX11_mostAlike_3 4 rfl rfl)
theorem dX11_mostAlike_78 : decode cX11_mostAlike 78 = .ok (.iaload, 1) := dk_46 (dk_at dksX11_mostAlike_3 6 rfl rfl)
theorem dX11_mostAlike_79 : decode cX11_mostAlike 79 = .ok (.iload_n 2, 1) := dk_28 (dk_at dksX11_mostAlike_3 7 rfl rfl)
theorem dX11_mostAlike_80 : decode cX11_mostAlike 80 = .ok (.if_icmp .le 11, 3) := dk_164 0 11 (dk_at dksX11_mostAlike_3 8 rfl rfl)
theorem dX11_mostAlike_83 : decode cX11_mostAlike 83 = .ok (.aload_n 0, 1) := dk_42 (dk_at dksX11_mostAlike_3 11 rfl rfl)
theorem dX11_mostAlike_84 : decode cX11_mostAlike 84 = .ok (.getfield 139, 3) := dk_180 0 139 (dk_at dksX11_mostAlike_3 12 rfl rfl)
theorem dX11_mostAlike_87 : decode cX11_mostAlike 87 = .ok (.iload 4, 2) := dk_21 4 (dk_at dksX11_mostAlike_3 15 rfl rfl)
theorem dX11_mostAlike_89 : decode cX11_mostAlike 89 = .ok (.iaload, 1) := dk_46 (dk_at dksX11_mostAlike_3 17 rfl rfl)
theorem dX11_mostAlike_90 : decode cX11_mostAlike 90 = .ok (.istore_n 2, 1) := dk_61 (dk_at dksX11_mostAlike_3 18 rfl rfl)
theorem dX11_mostAlike_91 : decode cX11_mostAlike 91 = .ok (.iinc 3 1, 3) := dk_132 3 1 (dk_at dksX11_mostAlike_3 19 rfl rfl)
theorem dX11_mostAlike_94 : decode cX11_mostAlike 94 = .ok (.goto (-68), 3) := dk_167 255 188 (dk_at dksX11_mostAlike_4 0 rfl rfl)
theorem dX11_mostAlike_97 : decode cX11_mostAlike 97 = .ok (.iload_n 2, 1) := dk_28 (dk_at dksX11_mostAlike_4 3 rfl rfl)
theorem dX11_mostAlike_98 : decode cX11_mostAlike 98 = .ok (.ireturn, 1) := dk_172 (dk_at dksX11_mostAlike_4 4 rfl rfl)
abbrev cX11_undo : ByteArray := prog_26_method_108_code
def yX11_undo : MethodName := ⟨RX11, "undo", "()Z"⟩
def dkwX11_undo_3 : List UInt8 := [181, 2, 122, 42, 89, 180, 1, 91, 4, 100, 181, 1, 91, 4, 172]
abbrev dktX11_undo_3 : List UInt8 := dkwX11_undo_3 ++ []
def dkwX11_undo_2 : List UInt8 := [96, 46, 79, 132, 1, 1, 167, 255, 225, 42, 42, 180, 2, 122, 16, 20, 96, 4, 100, 16, 20, 112]
abbrev dktX11_undo_2 : List UInt8 := dkwX11_undo_2 ++ dktX11_undo_3
def dkwX11_undo_1 : List UInt8 := [17, 9, 61, 162, 0, 30, 42, 180, 0, 111, 27, 42, 180, 0, 143, 17, 9, 61, 42, 180, 2, 122, 104, 27]
abbrev dktX11_undo_1 : List UInt8 := dkwX11_undo_1 ++ dktX11_undo_2
def dkwX11_undo_0 : List UInt8 := [42, 180, 1, 91, 154, 0, 15, 42, 180, 0, 17, 8, 92, 46, 4, 96, 79, 3, 172, 3, 60, 27]
abbrev dktX11_undo_0 : List UInt8 := dkwX11_undo_0 ++ dktX11_undo_1
theorem dksX11_undo_0 : cX11_undo.data.toList.drop 0 = dktX11_undo_0 := by decide +kernel
theorem dksX11_undo_1 : cX11_undo.data.toList.drop 22 = dktX11_undo_1 := dk_seg dksX11_undo_0 22 rfl rfl
theorem dksX11_undo_2 : cX11_undo.data.toList.drop 46 = dktX11_undo_2 := dk_seg dksX11_undo_1 24 rfl rfl
theorem dksX11_undo_3 : cX11_undo.data.toList.drop 68 = dktX11_undo_3 := dk_seg dksX11_undo_2 22 rfl rfl
theorem dX11_undo_0 : decode cX11_undo 0 = .ok (.aload_n 0, 1) := dk_42 (dk_at dksX11_undo_0 0 rfl rfl)
theorem dX11_undo_1 : decode cX11_undo 1 = .ok (.getfield 347, 3) := dk_180 1 91 (dk_at dksX11_undo_0 1 rfl rfl)
theorem dX11_undo_4 : decode cX11_undo 4 = .ok (.ifCond .ne 15, 3) := dk_154 0 15 (dk_at dksX11_undo_0 4 rfl rfl)
theorem dX11_undo_7 : decode cX11_undo 7 = .ok (.aload_n 0, 1) := dk_42 (dk_at dksX11_undo_0 7 rfl rfl)
theorem dX11_undo_8 : decode cX11_undo 8 = .ok (.getfield 17, 3) := dk_180 0 17 (dk_at dksX11_undo_0 8 rfl rfl)
theorem dX11_undo_11 : decode cX11_undo 11 = .ok (.iconst 5, 1) := dk_8 (dk_at dksX11_undo_0 11 rfl rfl)
theorem dX11_undo_12 : decode cX11_undo 12 = .ok (.dup2, 1) := dk_92 (dk_at dksX11_undo_0 12 rfl rfl)
theorem dX11_undo_13 : decode cX11_undo 13 = .ok (.iaload, 1) := dk_46 (dk_at dksX11_undo_0 13 rfl rfl)
theorem dX11_undo_14 : decode cX11_undo 14 = .ok (.iconst 1, 1) := dk_4 (dk_at dksX11_undo_0 14 rfl rfl)
theorem dX11_undo_15 : decode cX11_undo 15 = .ok (.iadd, 1) := dk_96 (dk_at dksX11_undo_0 15 rfl rfl)
theorem dX11_undo_16 : decode cX11_undo 16 = .ok (.iastore, 1) := dk_79 (dk_at dksX11_undo_0 16 rfl rfl)
theorem dX11_undo_17 : decode cX11_undo 17 = .ok (.iconst 0, 1) := dk_3 (dk_at dksX11_undo_0 17 rfl rfl)
theorem dX11_undo_18 : decode cX11_undo 18 = .ok (.ireturn, 1) := dk_172 (dk_at dksX11_undo_0 18 rfl rfl)
theorem dX11_undo_19 : decode cX11_undo 19 = .ok (.iconst 0, 1) := dk_3 (dk_at dksX11_undo_0 19 rfl rfl)
theorem dX11_undo_20 : decode cX11_undo 20 = .ok (.istore_n 1, 1) := dk_60 (dk_at dksX11_undo_0 20 rfl rfl)
theorem dX11_undo_21 : decode cX11_undo 21 = .ok (.iload_n 1, 1) := dk_27 (dk_at dksX11_undo_0 21 rfl rfl)
theorem dX11_undo_22 : decode cX11_undo 22 = .ok (.sipush 2365, 3) := dk_17 9 61 (dk_at dksX11_undo_1 0 rfl rfl)
theorem dX11_undo_25 : decode cX11_undo 25 = .ok (.if_icmp .ge 30, 3) := dk_162 0 30 (dk_at dksX11_undo_1 3 rfl rfl)
theorem dX11_undo_28 : decode cX11_undo 28 = .ok (.aload_n 0, 1) := dk_42 (dk_at dksX11_undo_1 6 rfl rfl)
theorem dX11_undo_29 : decode cX11_undo 29 = .ok (.getfield 111, 3) := dk_180 0 111 (dk_at dksX11_undo_1 7 rfl rfl)
theorem dX11_undo_32 : decode cX11_undo 32 = .ok (.iload_n 1, 1) := dk_27 (dk_at dksX11_undo_1 10 rfl rfl)
theorem dX11_undo_33 : decode cX11_undo 33 = .ok (.aload_n 0, 1) := dk_42 (dk_at dksX11_undo_1 11 rfl rfl)
theorem dX11_undo_34 : decode cX11_undo 34 = .ok (.getfield 143, 3) := dk_180 0 143 (dk_at dksX11_undo_1 12 rfl rfl)
theorem dX11_undo_37 : decode cX11_undo 37 = .ok (.sipush 2365, 3) := dk_17 9 61 (dk_at dksX11_undo_1 15 rfl rfl)
theorem dX11_undo_40 : decode cX11_undo 40 = .ok (.aload_n 0, 1) := dk_42 (dk_at dksX11_undo_1 18 rfl rfl)
theorem dX11_undo_41 : decode cX11_undo 41 = .ok (.getfield 634, 3) := dk_180 2 122 (dk_at dksX11_undo_1 19 rfl rfl)
theorem dX11_undo_44 : decode cX11_undo 44 = .ok (.imul, 1) := dk_104 (dk_at dksX11_undo_1 22 rfl rfl)
theorem dX11_undo_45 : decode cX11_undo 45 = .ok (.iload_n 1, 1) := dk_27 (dk_at dksX11_undo_1 23 rfl rfl)
theorem dX11_undo_46 : decode cX11_undo 46 = .ok (.iadd, 1) := dk_96 (dk_at dksX11_undo_2 0 rfl rfl)
theorem dX11_undo_47 : decode cX11_undo 47 = .ok (.iaload, 1) := dk_46 (dk_at dksX11_undo_2 1 rfl rfl)
theorem dX11_undo_48 : decode cX11_undo 48 = .ok (.iastore, 1) := dk_79 (dk_at dksX11_undo_2 2 rfl rfl)
theorem dX11_undo_49 : decode cX11_undo 49 = .ok (.iinc 1 1, 3) := dk_132 1 1 (dk_at dksX11_undo_2 3 rfl rfl)
theorem dX11_undo_52 : decode cX11_undo 52 = .ok (.goto (-31), 3) := dk_167 255 225 (dk_at dksX11_undo_2 6 rfl rfl)
theorem dX11_undo_55 : decode cX11_undo 55 = .ok (.aload_n 0, 1) := dk_42 (dk_at dksX11_undo_2 9 rfl rfl)
theorem dX11_undo_56 : decode cX11_undo 56 = .ok (.aload_n 0, 1) := dk_42 (dk_at dksX11_undo_2 10 rfl rfl)
theorem dX11_undo_57 : decode cX11_undo 57 = .ok (.getfield 634, 3) := dk_180 2 122 (dk_at dksX11_undo_2 11 rfl rfl)
theorem dX11_undo_60 : decode cX11_undo 60 = .ok (.bipush 20, 2) := dk_16 20 (dk_at dksX11_undo_2 14 rfl rfl)
theorem dX11_undo_62 : decode cX11_undo 62 = .ok (.iadd, 1) := dk_96 (dk_at dksX11_undo_2 16 rfl rfl)
theorem dX11_undo_63 : decode cX11_undo 63 = .ok (.iconst 1, 1) := dk_4 (dk_at dksX11_undo_2 17 rfl rfl)
theorem dX11_undo_64 : decode cX11_undo 64 = .ok (.isub, 1) := dk_100 (dk_at dksX11_undo_2 18 rfl rfl)
theorem dX11_undo_65 : decode cX11_undo 65 = .ok (.bipush 20, 2) := dk_16 20 (dk_at dksX11_undo_2 19 rfl rfl)
theorem dX11_undo_67 : decode cX11_undo 67 = .ok (.irem, 1) := dk_112 (dk_at dksX11_undo_2 21 rfl rfl)
theorem dX11_undo_68 : decode cX11_undo 68 = .ok (.putfield 634, 3) := dk_181 2 122 (dk_at dksX11_undo_3 0 rfl rfl)
theorem dX11_undo_71 : decode cX11_undo 71 = .ok (.aload_n 0, 1) := dk_42 (dk_at dksX11_undo_3 3 rfl rfl)
theorem dX11_undo_72 : decode cX11_undo 72 = .ok (.dup, 1) := dk_89 (dk_at dksX11_undo_3 4 rfl rfl)
theorem dX11_undo_73 : decode cX11_undo 73 = .ok (.getfield 347, 3) := dk_180 1 91 (dk_at dksX11_undo_3 5 rfl rfl)
theorem dX11_undo_76 : decode cX11_undo 76 = .ok (.iconst 1, 1) := dk_4 (dk_at dksX11_undo_3 8 rfl rfl)
theorem dX11_undo_77 : decode cX11_undo 77 = .ok (.isub, 1) := dk_100 (dk_at dksX11_undo_3 9 rfl rfl)
theorem dX11_undo_78 : decode cX11_undo 78 = .ok (.putfield 347, 3) := dk_181 1 91 (dk_at dksX11_undo_3 10 rfl rfl)
theorem dX11_undo_81 : decode cX11_undo 81 = .ok (.iconst 1, 1) := dk_4 (dk_at dksX11_undo_3 13 rfl rfl)
theorem dX11_undo_82 : decode cX11_undo 82 = .ok (.ireturn, 1) := dk_172 (dk_at dksX11_undo_3 14 rfl rfl)
abbrev cX11_append : ByteArray := prog_26_method_113_code
def yX11_append : MethodName := ⟨RX11, "append", "(III)I"⟩
def dkwX11_append_3 : List UInt8 := [180, 0, 111, 4, 46, 4, 100, 172]
abbrev dktX11_append_3 : List UInt8 := dkwX11_append_3 ++ []
def dkwX11_append_2 : List UInt8 := [182, 1, 97, 154, 0, 9, 42, 5, 182, 1, 77, 172, 42, 182, 2, 127, 42, 27, 28, 29, 182, 1, 100, 42]
abbrev dktX11_append_2 : List UInt8 := dkwX11_append_2 ++ dktX11_append_3
def dkwX11_append_1 : List UInt8 := [20, 2, 125, 184, 1, 19, 153, 0, 23, 29, 133, 9, 20, 2, 96, 184, 1, 19, 153, 0, 11, 42, 29]
abbrev dktX11_append_1 : List UInt8 := dkwX11_append_1 ++ dktX11_append_2
def dkwX11_append_0 : List UInt8 := [42, 180, 1, 84, 153, 0, 47, 27, 133, 9, 20, 2, 66, 184, 1, 19, 153, 0, 35, 28, 133, 9]
abbrev dktX11_append_0 : List UInt8 := dkwX11_append_0 ++ dktX11_append_1
theorem dksX11_append_0 : cX11_append.data.toList.drop 0 = dktX11_append_0 := by decide +kernel
theorem dksX11_append_1 : cX11_append.data.toList.drop 22 = dktX11_append_1 := dk_seg dksX11_append_0 22 rfl rfl
theorem dksX11_append_2 : cX11_append.data.toList.drop 45 = dktX11_append_2 := dk_seg dksX11_append_1 23 rfl rfl
theorem dksX11_append_3 : cX11_append.data.toList.drop 69 = dktX11_append_3 := dk_seg dksX11_append_2 24 rfl rfl
theorem dX11_append_0 : decode cX11_append 0 = .ok (.aload_n 0, 1) := dk_42 (dk_at dksX11_append_0 0 rfl rfl)
theorem dX11_append_1 : decode cX11_append 1 = .ok (.getfield 340, 3) := dk_180 1 84 (dk_at dksX11_append_0 1 rfl rfl)
theorem dX11_append_4 : decode cX11_append 4 = .ok (.ifCond .eq 47, 3) := dk_153 0 47 (dk_at dksX11_append_0 4 rfl rfl)
theorem dX11_append_7 : decode cX11_append 7 = .ok (.iload_n 1, 1) := dk_27 (dk_at dksX11_append_0 7 rfl rfl)
theorem dX11_append_8 : decode cX11_append 8 = .ok (.i2l, 1) := dk_133 (dk_at dksX11_append_0 8 rfl rfl)
theorem dX11_append_9 : decode cX11_append 9 = .ok (.lconst 0, 1) := dk_9 (dk_at dksX11_append_0 9 rfl rfl)
theorem dX11_append_10 : decode cX11_append 10 = .ok (.ldc2_w 578, 3) := dk_20 2 66 (dk_at dksX11_append_0 10 rfl rfl)
theorem dX11_append_13 : decode cX11_append 13 = .ok (.invokestatic 275, 3) := dk_184 1 19 (dk_at dksX11_append_0 13 rfl rfl)
theorem dX11_append_16 : decode cX11_append 16 = .ok (.ifCond .eq 35, 3) := dk_153 0 35 (dk_at dksX11_append_0 16 rfl rfl)
theorem dX11_append_19 : decode cX11_append 19 = .ok (.iload_n 2, 1) := dk_28 (dk_at dksX11_append_0 19 rfl rfl)
theorem dX11_append_20 : decode cX11_append 20 = .ok (.i2l, 1) := dk_133 (dk_at dksX11_append_0 20 rfl rfl)
theorem dX11_append_21 : decode cX11_append 21 = .ok (.lconst 0, 1) := dk_9 (dk_at dksX11_append_0 21 rfl rfl)
theorem dX11_append_22 : decode cX11_append 22 = .ok (.ldc2_w 637, 3) := dk_20 2 125 (dk_at dksX11_append_1 0 rfl rfl)
theorem dX11_append_25 : decode cX11_append 25 = .ok (.invokestatic 275, 3) := dk_184 1 19 (dk_at dksX11_append_1 3 rfl rfl)
theorem dX11_append_28 : decode cX11_append 28 = .ok (.ifCond .eq 23, 3) := dk_153 0 23 (dk_at dksX11_append_1 6 rfl rfl)
theorem dX11_append_31 : decode cX11_append 31 = .ok (.iload_n 3, 1) := dk_29 (dk_at dksX11_append_1 9 rfl rfl)
theorem dX11_append_32 : decode cX11_append 32 = .ok (.i2l, 1) := dk_133 (dk_at dksX11_append_1 10 rfl rfl)
theorem dX11_append_33 : decode cX11_append 33 = .ok (.lconst 0, 1) := dk_9 (dk_at dksX11_append_1 11 rfl rfl)
theorem dX11_append_34 : decode cX11_append 34 = .ok (.ldc2_w 608, 3) := dk_20 2 96 (dk_at dksX11_append_1 12 rfl rfl)
theorem dX11_append_37 : decode cX11_append 37 = .ok (.invokestatic 275, 3) := dk_184 1 19 (dk_at dksX11_append_1 15 rfl rfl)
theorem dX11_append_40 : decode cX11_append 40 = .ok (.ifCond .eq 11, 3) := dk_153 0 11 (dk_at dksX11_append_1 18 rfl rfl)
theorem dX11_append_43 : decode cX11_append 43 = .ok (.aload_n 0, 1) := dk_42 (dk_at dksX11_append_1 21 rfl rfl)
theorem dX11_append_44 : decode cX11_append 44 = .ok (.iload_n 3, 1) := dk_29 (dk_at dksX11_append_1 22 rfl rfl)
theorem dX11_append_45 : decode cX11_append 45 = .ok (.invokevirtual 353, 3) := dk_182 1 97 (dk_at dksX11_append_2 0 rfl rfl)
theorem dX11_append_48 : decode cX11_append 48 = .ok (.ifCond .ne 9, 3) := dk_154 0 9 (dk_at dksX11_append_2 3 rfl rfl)
theorem dX11_append_51 : decode cX11_append 51 = .ok (.aload_n 0, 1) := dk_42 (dk_at dksX11_append_2 6 rfl rfl)
theorem dX11_append_52 : decode cX11_append 52 = .ok (.iconst 2, 1) := dk_5 (dk_at dksX11_append_2 7 rfl rfl)
theorem dX11_append_53 : decode cX11_append 53 = .ok (.invokevirtual 333, 3) := dk_182 1 77 (dk_at dksX11_append_2 8 rfl rfl)
theorem dX11_append_56 : decode cX11_append 56 = .ok (.ireturn, 1) := dk_172 (dk_at dksX11_append_2 11 rfl rfl)
theorem dX11_append_57 : decode cX11_append 57 = .ok (.aload_n 0, 1) := dk_42 (dk_at dksX11_append_2 12 rfl rfl)
theorem dX11_append_58 : decode cX11_append 58 = .ok (.invokevirtual 639, 3) := dk_182 2 127 (dk_at dksX11_append_2 13 rfl rfl)
theorem dX11_append_61 : decode cX11_append 61 = .ok (.aload_n 0, 1) := dk_42 (dk_at dksX11_append_2 16 rfl rfl)
theorem dX11_append_62 : decode cX11_append 62 = .ok (.iload_n 1, 1) := dk_27 (dk_at dksX11_append_2 17 rfl rfl)
theorem dX11_append_63 : decode cX11_append 63 = .ok (.iload_n 2, 1) := dk_28 (dk_at dksX11_append_2 18 rfl rfl)
theorem dX11_append_64 : decode cX11_append 64 = .ok (.iload_n 3, 1) := dk_29 (dk_at dksX11_append_2 19 rfl rfl)
theorem dX11_append_65 : decode cX11_append 65 = .ok (.invokevirtual 356, 3) := dk_182 1 100 (dk_at dksX11_append_2 20 rfl rfl)
theorem dX11_append_68 : decode cX11_append 68 = .ok (.aload_n 0, 1) := dk_42 (dk_at dksX11_append_2 23 rfl rfl)
theorem dX11_append_69 : decode cX11_append 69 = .ok (.getfield 111, 3) := dk_180 0 111 (dk_at dksX11_append_3 0 rfl rfl)
theorem dX11_append_72 : decode cX11_append 72 = .ok (.iconst 1, 1) := dk_4 (dk_at dksX11_append_3 3 rfl rfl)
theorem dX11_append_73 : decode cX11_append 73 = .ok (.iaload, 1) := dk_46 (dk_at dksX11_append_3 4 rfl rfl)
theorem dX11_append_74 : decode cX11_append 74 = .ok (.iconst 1, 1) := dk_4 (dk_at dksX11_append_3 5 rfl rfl)
theorem dX11_append_75 : decode cX11_append 75 = .ok (.isub, 1) := dk_100 (dk_at dksX11_append_3 6 rfl rfl)
theorem dX11_append_76 : decode cX11_append 76 = .ok (.ireturn, 1) := dk_172 (dk_at dksX11_append_3 7 rfl rfl)
abbrev cX11_keeps : ByteArray := prog_26_method_107_code
def yX11_keeps : MethodName := ⟨RX11, "keeps", "()V"⟩
def dkwX11_keeps_2 : List UInt8 := [167, 255, 225, 42, 180, 1, 91, 16, 20, 162, 0, 13, 42, 89, 180, 1, 91, 4, 96, 181, 1, 91, 177]
abbrev dktX11_keeps_2 : List UInt8 := dkwX11_keeps_2 ++ []
def dkwX11_keeps_1 : List UInt8 := [180, 0, 143, 17, 9, 61, 42, 180, 2, 122, 104, 27, 96, 42, 180, 0, 111, 27, 46, 79, 132, 1, 1]
abbrev dktX11_keeps_1 : List UInt8 := dkwX11_keeps_1 ++ dktX11_keeps_2
def dkwX11_keeps_0 : List UInt8 := [42, 42, 180, 2, 122, 4, 96, 16, 20, 112, 181, 2, 122, 3, 60, 27, 17, 9, 61, 162, 0, 30, 42]
abbrev dktX11_keeps_0 : List UInt8 := dkwX11_keeps_0 ++ dktX11_keeps_1
theorem dksX11_keeps_0 : cX11_keeps.data.toList.drop 0 = dktX11_keeps_0 := by decide +kernel
theorem dksX11_keeps_1 : cX11_keeps.data.toList.drop 23 = dktX11_keeps_1 := dk_seg dksX11_keeps_0 23 rfl rfl
theorem dksX11_keeps_2 : cX11_keeps.data.toList.drop 46 = dktX11_keeps_2 := dk_seg dksX11_keeps_1 23 rfl rfl
theorem dX11_keeps_0 : decode cX11_keeps 0 = .ok (.aload_n 0, 1) := dk_42 (dk_at dksX11_keeps_0 0 rfl rfl)
theorem dX11_keeps_1 : decode cX11_keeps 1 = .ok (.aload_n 0, 1) := dk_42 (dk_at dksX11_keeps_0 1 rfl rfl)
theorem dX11_keeps_2 : decode cX11_keeps 2 = .ok (.getfield 634, 3) := dk_180 2 122 (dk_at dksX11_keeps_0 2 rfl rfl)
theorem dX11_keeps_5 : decode cX11_keeps 5 = .ok (.iconst 1, 1) := dk_4 (dk_at dksX11_keeps_0 5 rfl rfl)
theorem dX11_keeps_6 : decode cX11_keeps 6 = .ok (.iadd, 1) := dk_96 (dk_at dksX11_keeps_0 6 rfl rfl)
theorem dX11_keeps_7 : decode cX11_keeps 7 = .ok (.bipush 20, 2) := dk_16 20 (dk_at dksX11_keeps_0 7 rfl rfl)
theorem dX11_keeps_9 : decode cX11_keeps 9 = .ok (.irem, 1) := dk_112 (dk_at dksX11_keeps_0 9 rfl rfl)
theorem dX11_keeps_10 : decode cX11_keeps 10 = .ok (.putfield 634, 3) := dk_181 2 122 (dk_at dksX11_keeps_0 10 rfl rfl)
theorem dX11_keeps_13 : decode cX11_keeps 13 = .ok (.iconst 0, 1) := dk_3 (dk_at dksX11_keeps_0 13 rfl rfl)
theorem dX11_keeps_14 : decode cX11_keeps 14 = .ok (.istore_n 1, 1) := dk_60 (dk_at dksX11_keeps_0 14 rfl rfl)
theorem dX11_keeps_15 : decode cX11_keeps 15 = .ok (.iload_n 1, 1) := dk_27 (dk_at dksX11_keeps_0 15 rfl rfl)
theorem dX11_keeps_16 : decode cX11_keeps 16 = .ok (.sipush 2365, 3) := dk_17 9 61 (dk_at dksX11_keeps_0 16 rfl rfl)
theorem dX11_keeps_19 : decode cX11_keeps 19 = .ok (.if_icmp .ge 30, 3) := dk_162 0 30 (dk_at dksX11_keeps_0 19 rfl rfl)
theorem dX11_keeps_22 : decode cX11_keeps 22 = .ok (.aload_n 0, 1) := dk_42 (dk_at dksX11_keeps_0 22 rfl rfl)
theorem dX11_keeps_23 : decode cX11_keeps 23 = .ok (.getfield 143, 3) := dk_180 0 143 (dk_at dksX11_keeps_1 0 rfl rfl)
theorem dX11_keeps_26 : decode cX11_keeps 26 = .ok (.sipush 2365, 3) := dk_17 9 61 (dk_at dksX11_keeps_1 3 rfl rfl)
theorem dX11_keeps_29 : decode cX11_keeps 29 = .ok (.aload_n 0, 1) := dk_42 (dk_at dksX11_keeps_1 6 rfl rfl)
theorem dX11_keeps_30 : decode cX11_keeps 30 = .ok (.getfield 634, 3) := dk_180 2 122 (dk_at dksX11_keeps_1 7 rfl rfl)
theorem dX11_keeps_33 : decode cX11_keeps 33 = .ok (.imul, 1) := dk_104 (dk_at dksX11_keeps_1 10 rfl rfl)
theorem dX11_keeps_34 : decode cX11_keeps 34 = .ok (.iload_n 1, 1) := dk_27 (dk_at dksX11_keeps_1 11 rfl rfl)
theorem dX11_keeps_35 : decode cX11_keeps 35 = .ok (.iadd, 1) := dk_96 (dk_at dksX11_keeps_1 12 rfl rfl)
theorem dX11_keeps_36 : decode cX11_keeps 36 = .ok (.aload_n 0, 1) := dk_42 (dk_at dksX11_keeps_1 13 rfl rfl)
theorem dX11_keeps_37 : decode cX11_keeps 37 = .ok (.getfield 111, 3) := dk_180 0 111 (dk_at dksX11_keeps_1 14 rfl rfl)
theorem dX11_keeps_40 : decode cX11_keeps 40 = .ok (.iload_n 1, 1) := dk_27 (dk_at dksX11_keeps_1 17 rfl rfl)
theorem dX11_keeps_41 : decode cX11_keeps 41 = .ok (.iaload, 1) := dk_46 (dk_at dksX11_keeps_1 18 rfl rfl)
theorem dX11_keeps_42 : decode cX11_keeps 42 = .ok (.iastore, 1) := dk_79 (dk_at dksX11_keeps_1 19 rfl rfl)
theorem dX11_keeps_43 : decode cX11_keeps 43 = .ok (.iinc 1 1, 3) := dk_132 1 1 (dk_at dksX11_keeps_1 20 rfl rfl)
theorem dX11_keeps_46 : decode cX11_keeps 46 = .ok (.goto (-31), 3) := dk_167 255 225 (dk_at dksX11_keeps_2 0 rfl rfl)
theorem dX11_keeps_49 : decode cX11_keeps 49 = .ok (.aload_n 0, 1) := dk_42 (dk_at dksX11_keeps_2 3 rfl rfl)
theorem dX11_keeps_50 : decode cX11_keeps 50 = .ok (.getfield 347, 3) := dk_180 1 91 (dk_at dksX11_keeps_2 4 rfl rfl)
theorem dX11_keeps_53 : decode cX11_keeps 53 = .ok (.bipush 20, 2) := dk_16 20 (dk_at dksX11_keeps_2 7 rfl rfl)
theorem dX11_keeps_55 : decode cX11_keeps 55 = .ok (.if_icmp .ge 13, 3) := dk_162 0 13 (dk_at dksX11_keeps_2 9 rfl rfl)
theorem dX11_keeps_58 : decode cX11_keeps 58 = .ok (.aload_n 0, 1) := dk_42 (dk_at dksX11_keeps_2 12 rfl rfl)
theorem dX11_keeps_59 : decode cX11_keeps 59 = .ok (.dup, 1) := dk_89 (dk_at dksX11_keeps_2 13 rfl rfl)
theorem dX11_keeps_60 : decode cX11_keeps 60 = .ok (.getfield 347, 3) := dk_180 1 91 (dk_at dksX11_keeps_2 14 rfl rfl)
theorem dX11_keeps_63 : decode cX11_keeps 63 = .ok (.iconst 1, 1) := dk_4 (dk_at dksX11_keeps_2 17 rfl rfl)
theorem dX11_keeps_64 : decode cX11_keeps 64 = .ok (.iadd, 1) := dk_96 (dk_at dksX11_keeps_2 18 rfl rfl)
theorem dX11_keeps_65 : decode cX11_keeps 65 = .ok (.putfield 347, 3) := dk_181 1 91 (dk_at dksX11_keeps_2 19 rfl rfl)
theorem dX11_keeps_68 : decode cX11_keeps 68 = .ok (.return_, 1) := dk_177 (dk_at dksX11_keeps_2 22 rfl rfl)
abbrev cX11_waits : ByteArray := prog_26_method_114_code
def yX11_waits : MethodName := ⟨RX11, "waits", "(II)Z"⟩
def dkwX11_waits_4 : List UInt8 := [42, 180, 0, 111, 16, 12, 92, 46, 4, 96, 79, 4, 172]
abbrev dktX11_waits_4 : List UInt8 := dkwX11_waits_4 ++ []
def dkwX11_waits_3 : List UInt8 := [17, 0, 184, 27, 96, 28, 79, 42, 180, 0, 111, 17, 0, 176, 42, 180, 0, 111, 16, 12, 46, 96, 27, 79]
abbrev dktX11_waits_3 : List UInt8 := dkwX11_waits_3 ++ dktX11_waits_4
def dkwX11_waits_2 : List UInt8 := [46, 4, 100, 133, 184, 1, 19, 154, 0, 9, 42, 5, 182, 2, 130, 172, 42, 182, 2, 127, 42, 180, 0, 111]
abbrev dktX11_waits_2 : List UInt8 := dkwX11_waits_2 ++ dktX11_waits_3
def dkwX11_waits_1 : List UInt8 := [17, 0, 184, 27, 96, 46, 2, 160, 0, 27, 28, 133, 42, 180, 0, 111, 5, 46, 133, 42, 180, 0, 111, 4]
abbrev dktX11_waits_1 : List UInt8 := dkwX11_waits_1 ++ dktX11_waits_2
def dkwX11_waits_0 : List UInt8 := [42, 180, 1, 84, 153, 0, 53, 27, 133, 9, 20, 2, 73, 184, 1, 19, 153, 0, 41, 42, 180, 0, 111]
abbrev dktX11_waits_0 : List UInt8 := dkwX11_waits_0 ++ dktX11_waits_1
theorem dksX11_waits_0 : cX11_waits.data.toList.drop 0 = dktX11_waits_0 := by decide +kernel
theorem dksX11_waits_1 : cX11_waits.data.toList.drop 23 = dktX11_waits_1 := dk_seg dksX11_waits_0 23 rfl rfl
theorem dksX11_waits_2 : cX11_waits.data.toList.drop 47 = dktX11_waits_2 := dk_seg dksX11_waits_1 24 rfl rfl
theorem dksX11_waits_3 : cX11_waits.data.toList.drop 71 = dktX11_waits_3 := dk_seg dksX11_waits_2 24 rfl rfl
theorem dksX11_waits_4 : cX11_waits.data.toList.drop 95 = dktX11_waits_4 := dk_seg dksX11_waits_3 24 rfl rfl
theorem dX11_waits_0 : decode cX11_waits 0 = .ok (.aload_n 0, 1) := dk_42 (dk_at dksX11_waits_0 0 rfl rfl)
theorem dX11_waits_1 : decode cX11_waits 1 = .ok (.getfield 340, 3) := dk_180 1 84 (dk_at dksX11_waits_0 1 rfl rfl)
theorem dX11_waits_4 : decode cX11_waits 4 = .ok (.ifCond .eq 53, 3) := dk_153 0 53 (dk_at dksX11_waits_0 4 rfl rfl)
theorem dX11_waits_7 : decode cX11_waits 7 = .ok (.iload_n 1, 1) := dk_27 (dk_at dksX11_waits_0 7 rfl rfl)
theorem dX11_waits_8 : decode cX11_waits 8 = .ok (.i2l, 1) := dk_133 (dk_at dksX11_waits_0 8 rfl rfl)
theorem dX11_waits_9 : decode cX11_waits 9 = .ok (.lconst 0, 1) := dk_9 (dk_at dksX11_waits_0 9 rfl rfl)
theorem dX11_waits_10 : decode cX11_waits 10 = .ok (.ldc2_w 585, 3) := dk_20 2 73 (dk_at dksX11_waits_0 10 rfl rfl)
theorem dX11_waits_13 : decode cX11_waits 13 = .ok (.invokestatic 275, 3) := dk_184 1 19 (dk_at dksX11_waits_0 13 rfl rfl)
theorem dX11_waits_16 : decode cX11_waits 16 = .ok (.ifCond .eq 41, 3) := dk_153 0 41 (dk_at dksX11_waits_0 16 rfl rfl)
theorem dX11_waits_19 : decode cX11_waits 19 = .ok (.aload_n 0, 1) := dk_42 (dk_at dksX11_waits_0 19 rfl rfl)
theorem dX11_waits_20 : decode cX11_waits 20 = .ok (.getfield 111, 3) := dk_180 0 111 (dk_at dksX11_waits_0 20 rfl rfl)
theorem dX11_waits_23 : decode cX11_waits 23 = .ok (.sipush 184, 3) := dk_17 0 184 (dk_at dksX11_waits_1 0 rfl rfl)
theorem dX11_waits_26 : decode cX11_waits 26 = .ok (.iload_n 1, 1) := dk_27 (dk_at dksX11_waits_1 3 rfl rfl)
theorem dX11_waits_27 : decode cX11_waits 27 = .ok (.iadd, 1) := dk_96 (dk_at dksX11_waits_1 4 rfl rfl)
theorem dX11_waits_28 : decode cX11_waits 28 = .ok (.iaload, 1) := dk_46 (dk_at dksX11_waits_1 5 rfl rfl)
theorem dX11_waits_29 : decode cX11_waits 29 = .ok (.iconst (-1), 1) := dk_2 (dk_at dksX11_waits_1 6 rfl rfl)
theorem dX11_waits_30 : decode cX11_waits 30 = .ok (.if_icmp .ne 27, 3) := dk_160 0 27 (dk_at dksX11_waits_1 7 rfl rfl)
theorem dX11_waits_33 : decode cX11_waits 33 = .ok (.iload_n 2, 1) := dk_28 (dk_at dksX11_waits_1 10 rfl rfl)
theorem dX11_waits_34 : decode cX11_waits 34 = .ok (.i2l, 1) := dk_133 (dk_at dksX11_waits_1 11 rfl rfl)
theorem dX11_waits_35 : decode cX11_waits 35 = .ok (.aload_n 0, 1) := dk_42 (dk_at dksX11_waits_1 12 rfl rfl)
theorem dX11_waits_36 : decode cX11_waits 36 = .ok (.getfield 111, 3) := dk_180 0 111 (dk_at dksX11_waits_1 13 rfl rfl)
theorem dX11_waits_39 : decode cX11_waits 39 = .ok (.iconst 2, 1) := dk_5 (dk_at dksX11_waits_1 16 rfl rfl)
theorem dX11_waits_40 : decode cX11_waits 40 = .ok (.iaload, 1) := dk_46 (dk_at dksX11_waits_1 17 rfl rfl)
theorem dX11_waits_41 : decode cX11_waits 41 = .ok (.i2l, 1) := dk_133 (dk_at dksX11_waits_1 18 rfl rfl)
theorem dX11_waits_42 : decode cX11_waits 42 = .ok (.aload_n 0, 1) := dk_42 (dk_at dksX11_waits_1 19 rfl rfl)
theorem dX11_waits_43 : decode cX11_waits 43 = .ok (.getfield 111, 3) := dk_180 0 111 (dk_at dksX11_waits_1 20 rfl rfl)
theorem dX11_waits_46 : decode cX11_waits 46 = .ok (.iconst 1, 1) := dk_4 (dk_at dksX11_waits_1 23 rfl rfl)
theorem dX11_waits_47 : decode cX11_waits 47 = .ok (.iaload, 1) := dk_46 (dk_at dksX11_waits_2 0 rfl rfl)
theorem dX11_waits_48 : decode cX11_waits 48 = .ok (.iconst 1, 1) := dk_4 (dk_at dksX11_waits_2 1 rfl rfl)
theorem dX11_waits_49 : decode cX11_waits 49 = .ok (.isub, 1) := dk_100 (dk_at dksX11_waits_2 2 rfl rfl)
theorem dX11_waits_50 : decode cX11_waits 50 = .ok (.i2l, 1) := dk_133 (dk_at dksX11_waits_2 3 rfl rfl)
theorem dX11_waits_51 : decode cX11_waits 51 = .ok (.invokestatic 275, 3) := dk_184 1 19 (dk_at dksX11_waits_2 4 rfl rfl)
theorem dX11_waits_54 : decode cX11_waits 54 = .ok (.ifCond .ne 9, 3) := dk_154 0 9 (dk_at dksX11_waits_2 7 rfl rfl)
theorem dX11_waits_57 : decode cX11_waits 57 = .ok (.aload_n 0, 1) := dk_42 (dk_at dksX11_waits_2 10 rfl rfl)
theorem dX11_waits_58 : decode cX11_waits 58 = .ok (.iconst 2, 1) := dk_5 (dk_at dksX11_waits_2 11 rfl rfl)
theorem dX11_waits_59 : decode cX11_waits 59 = .ok (.invokevirtual 642, 3) := dk_182 2 130 (dk_at dksX11_waits_2 12 rfl rfl)
theorem dX11_waits_62 : decode cX11_waits 62 = .ok (.ireturn, 1) := dk_172 (dk_at dksX11_waits_2 15 rfl rfl)
theorem dX11_waits_63 : decode cX11_waits 63 = .ok (.aload_n 0, 1) := dk_42 (dk_at dksX11_waits_2 16 rfl rfl)
theorem dX11_waits_64 : decode cX11_waits 64 = .ok (.invokevirtual 639, 3) := dk_182 2 127 (dk_at dksX11_waits_2 17 rfl rfl)
theorem dX11_waits_67 : decode cX11_waits 67 = .ok (.aload_n 0, 1) := dk_42 (dk_at dksX11_waits_2 20 rfl rfl)
theorem dX11_waits_68 : decode cX11_waits 68 = .ok (.getfield 111, 3) := dk_180 0 111 (dk_at dksX11_waits_2 21 rfl rfl)
theorem dX11_waits_71 : decode cX11_waits 71 = .ok (.sipush 184, 3) := dk_17 0 184 (dk_at dksX11_waits_3 0 rfl rfl)
theorem dX11_waits_74 : decode cX11_waits 74 = .ok (.iload_n 1, 1) := dk_27 (dk_at dksX11_waits_3 3 rfl rfl)
theorem dX11_waits_75 : decode cX11_waits 75 = .ok (.iadd, 1) := dk_96 (dk_at dksX11_waits_3 4 rfl rfl)
theorem dX11_waits_76 : decode cX11_waits 76 = .ok (.iload_n 2, 1) := dk_28 (dk_at dksX11_waits_3 5 rfl rfl)
theorem dX11_waits_77 : decode cX11_waits 77 = .ok (.iastore, 1) := dk_79 (dk_at dksX11_waits_3 6 rfl rfl)
theorem dX11_waits_78 : decode cX11_waits 78 = .ok (.aload_n 0, 1) := dk_42 (dk_at dksX11_waits_3 7 rfl rfl)
theorem dX11_waits_79 : decode cX11_waits 79 = .ok (.getfield 111, 3) := dk_180 0 111 (dk_at dksX11_waits_3 8 rfl rfl)
theorem dX11_waits_82 : decode cX11_waits 82 = .ok (.sipush 176, 3) := dk_17 0 176 (dk_at dksX11_waits_3 11 rfl rfl)
theorem dX11_waits_85 : decode cX11_waits 85 = .ok (.aload_n 0, 1) := dk_42 (dk_at dksX11_waits_3 14 rfl rfl)
theorem dX11_waits_86 : decode cX11_waits 86 = .ok (.getfield 111, 3) := dk_180 0 111 (dk_at dksX11_waits_3 15 rfl rfl)
theorem dX11_waits_89 : decode cX11_waits 89 = .ok (.bipush 12, 2) := dk_16 12 (dk_at dksX11_waits_3 18 rfl rfl)
theorem dX11_waits_91 : decode cX11_waits 91 = .ok (.iaload, 1) := dk_46 (dk_at dksX11_waits_3 20 rfl rfl)
theorem dX11_waits_92 : decode cX11_waits 92 = .ok (.iadd, 1) := dk_96 (dk_at dksX11_waits_3 21 rfl rfl)
theorem dX11_waits_93 : decode cX11_waits 93 = .ok (.iload_n 1, 1) := dk_27 (dk_at dksX11_waits_3 22 rfl rfl)
theorem dX11_waits_94 : decode cX11_waits 94 = .ok (.iastore, 1) := dk_79 (dk_at dksX11_waits_3 23 rfl rfl)
theorem dX11_waits_95 : decode cX11_waits 95 = .ok (.aload_n 0, 1) := dk_42 (dk_at dksX11_waits_4 0 rfl rfl)
theorem dX11_waits_96 : decode cX11_waits 96 = .ok (.getfield 111, 3) := dk_180 0 111 (dk_at dksX11_waits_4 1 rfl rfl)
theorem dX11_waits_99 : decode cX11_waits 99 = .ok (.bipush 12, 2) := dk_16 12 (dk_at dksX11_waits_4 4 rfl rfl)
theorem dX11_waits_101 : decode cX11_waits 101 = .ok (.dup2, 1) := dk_92 (dk_at dksX11_waits_4 6 rfl rfl)
theorem dX11_waits_102 : decode cX11_waits 102 = .ok (.iaload, 1) := dk_46 (dk_at dksX11_waits_4 7 rfl rfl)
theorem dX11_waits_103 : decode cX11_waits 103 = .ok (.iconst 1, 1) := dk_4 (dk_at dksX11_waits_4 8 rfl rfl)
theorem dX11_waits_104 : decode cX11_waits 104 = .ok (.iadd, 1) := dk_96 (dk_at dksX11_waits_4 9 rfl rfl)
theorem dX11_waits_105 : decode cX11_waits 105 = .ok (.iastore, 1) := dk_79 (dk_at dksX11_waits_4 10 rfl rfl)
theorem dX11_waits_106 : decode cX11_waits 106 = .ok (.iconst 1, 1) := dk_4 (dk_at dksX11_waits_4 11 rfl rfl)
theorem dX11_waits_107 : decode cX11_waits 107 = .ok (.ireturn, 1) := dk_172 (dk_at dksX11_waits_4 12 rfl rfl)
abbrev cX11_isRefused : ByteArray := prog_26_method_110_code
def yX11_isRefused : MethodName := ⟨RX11, "isRefused", "(I)Z"⟩
def dkwX11_isRefused_0 : List UInt8 := [42, 180, 0, 17, 27, 92, 46, 4, 96, 79, 3, 172]
abbrev dktX11_isRefused_0 : List UInt8 := dkwX11_isRefused_0 ++ []
theorem dksX11_isRefused_0 : cX11_isRefused.data.toList.drop 0 = dktX11_isRefused_0 := by decide +kernel
theorem dX11_isRefused_0 : decode cX11_isRefused 0 = .ok (.aload_n 0, 1) := dk_42 (dk_at dksX11_isRefused_0 0 rfl rfl)
theorem dX11_isRefused_1 : decode cX11_isRefused 1 = .ok (.getfield 17, 3) := dk_180 0 17 (dk_at dksX11_isRefused_0 1 rfl rfl)
theorem dX11_isRefused_4 : decode cX11_isRefused 4 = .ok (.iload_n 1, 1) := dk_27 (dk_at dksX11_isRefused_0 4 rfl rfl)
theorem dX11_isRefused_5 : decode cX11_isRefused 5 = .ok (.dup2, 1) := dk_92 (dk_at dksX11_isRefused_0 5 rfl rfl)
theorem dX11_isRefused_6 : decode cX11_isRefused 6 = .ok (.iaload, 1) := dk_46 (dk_at dksX11_isRefused_0 6 rfl rfl)
theorem dX11_isRefused_7 : decode cX11_isRefused 7 = .ok (.iconst 1, 1) := dk_4 (dk_at dksX11_isRefused_0 7 rfl rfl)
theorem dX11_isRefused_8 : decode cX11_isRefused 8 = .ok (.iadd, 1) := dk_96 (dk_at dksX11_isRefused_0 8 rfl rfl)
theorem dX11_isRefused_9 : decode cX11_isRefused 9 = .ok (.iastore, 1) := dk_79 (dk_at dksX11_isRefused_0 9 rfl rfl)
theorem dX11_isRefused_10 : decode cX11_isRefused 10 = .ok (.iconst 0, 1) := dk_3 (dk_at dksX11_isRefused_0 10 rfl rfl)
theorem dX11_isRefused_11 : decode cX11_isRefused 11 = .ok (.ireturn, 1) := dk_172 (dk_at dksX11_isRefused_0 11 rfl rfl)
abbrev cX11_ticks : ByteArray := prog_26_method_115_code
def yX11_ticks : MethodName := ⟨RX11, "ticks", "(I)I"⟩
def dkwX11_ticks_1 : List UInt8 := [182, 2, 82, 42, 180, 1, 208, 172]
abbrev dktX11_ticks_1 : List UInt8 := dkwX11_ticks_1 ++ []
def dkwX11_ticks_0 : List UInt8 := [42, 27, 4, 16, 100, 182, 2, 75, 154, 0, 9, 42, 6, 182, 1, 77, 172, 42, 182, 2, 127, 42, 27]
abbrev dktX11_ticks_0 : List UInt8 := dkwX11_ticks_0 ++ dktX11_ticks_1
theorem dksX11_ticks_0 : cX11_ticks.data.toList.drop 0 = dktX11_ticks_0 := by decide +kernel
theorem dksX11_ticks_1 : cX11_ticks.data.toList.drop 23 = dktX11_ticks_1 := dk_seg dksX11_ticks_0 23 rfl rfl
theorem dX11_ticks_0 : decode cX11_ticks 0 = .ok (.aload_n 0, 1) := dk_42 (dk_at dksX11_ticks_0 0 rfl rfl)
theorem dX11_ticks_1 : decode cX11_ticks 1 = .ok (.iload_n 1, 1) := dk_27 (dk_at dksX11_ticks_0 1 rfl rfl)
theorem dX11_ticks_2 : decode cX11_ticks 2 = .ok (.iconst 1, 1) := dk_4 (dk_at dksX11_ticks_0 2 rfl rfl)
theorem dX11_ticks_3 : decode cX11_ticks 3 = .ok (.bipush 100, 2) := dk_16 100 (dk_at dksX11_ticks_0 3 rfl rfl)
theorem dX11_ticks_5 : decode cX11_ticks 5 = .ok (.invokevirtual 587, 3) := dk_182 2 75 (dk_at dksX11_ticks_0 5 rfl rfl)
theorem dX11_ticks_8 : decode cX11_ticks 8 = .ok (.ifCond .ne 9, 3) := dk_154 0 9 (dk_at dksX11_ticks_0 8 rfl rfl)
theorem dX11_ticks_11 : decode cX11_ticks 11 = .ok (.aload_n 0, 1) := dk_42 (dk_at dksX11_ticks_0 11 rfl rfl)
theorem dX11_ticks_12 : decode cX11_ticks 12 = .ok (.iconst 3, 1) := dk_6 (dk_at dksX11_ticks_0 12 rfl rfl)
theorem dX11_ticks_13 : decode cX11_ticks 13 = .ok (.invokevirtual 333, 3) := dk_182 1 77 (dk_at dksX11_ticks_0 13 rfl rfl)
theorem dX11_ticks_16 : decode cX11_ticks 16 = .ok (.ireturn, 1) := dk_172 (dk_at dksX11_ticks_0 16 rfl rfl)
theorem dX11_ticks_17 : decode cX11_ticks 17 = .ok (.aload_n 0, 1) := dk_42 (dk_at dksX11_ticks_0 17 rfl rfl)
theorem dX11_ticks_18 : decode cX11_ticks 18 = .ok (.invokevirtual 639, 3) := dk_182 2 127 (dk_at dksX11_ticks_0 18 rfl rfl)
theorem dX11_ticks_21 : decode cX11_ticks 21 = .ok (.aload_n 0, 1) := dk_42 (dk_at dksX11_ticks_0 21 rfl rfl)
theorem dX11_ticks_22 : decode cX11_ticks 22 = .ok (.iload_n 1, 1) := dk_27 (dk_at dksX11_ticks_0 22 rfl rfl)
theorem dX11_ticks_23 : decode cX11_ticks 23 = .ok (.invokevirtual 594, 3) := dk_182 2 82 (dk_at dksX11_ticks_1 0 rfl rfl)
theorem dX11_ticks_26 : decode cX11_ticks 26 = .ok (.aload_n 0, 1) := dk_42 (dk_at dksX11_ticks_1 3 rfl rfl)
theorem dX11_ticks_27 : decode cX11_ticks 27 = .ok (.getfield 464, 3) := dk_180 1 208 (dk_at dksX11_ticks_1 4 rfl rfl)
theorem dX11_ticks_30 : decode cX11_ticks 30 = .ok (.ireturn, 1) := dk_172 (dk_at dksX11_ticks_1 7 rfl rfl)
abbrev cX11_seed : ByteArray := prog_26_method_116_code
def yX11_seed : MethodName := ⟨RX11, "seed", "(I)Z"⟩
def dkwX11_seed_0 : List UInt8 := [27, 156, 0, 10, 42, 16, 6, 182, 2, 130, 172, 42, 27, 133, 181, 0, 146, 4, 172]
abbrev dktX11_seed_0 : List UInt8 := dkwX11_seed_0 ++ []
theorem dksX11_seed_0 : cX11_seed.data.toList.drop 0 = dktX11_seed_0 := by decide +kernel
theorem dX11_seed_0 : decode cX11_seed 0 = .ok (.iload_n 1, 1) := dk_27 (dk_at dksX11_seed_0 0 rfl rfl)
theorem dX11_seed_1 : decode cX11_seed 1 = .ok (.ifCond .ge 10, 3) := dk_156 0 10 (dk_at dksX11_seed_0 1 rfl rfl)
theorem dX11_seed_4 : decode cX11_seed 4 = .ok (.aload_n 0, 1) := dk_42 (dk_at dksX11_seed_0 4 rfl rfl)
theorem dX11_seed_5 : decode cX11_seed 5 = .ok (.bipush 6, 2) := dk_16 6 (dk_at dksX11_seed_0 5 rfl rfl)
theorem dX11_seed_7 : decode cX11_seed 7 = .ok (.invokevirtual 642, 3) := dk_182 2 130 (dk_at dksX11_seed_0 7 rfl rfl)
theorem dX11_seed_10 : decode cX11_seed 10 = .ok (.ireturn, 1) := dk_172 (dk_at dksX11_seed_0 10 rfl rfl)
theorem dX11_seed_11 : decode cX11_seed 11 = .ok (.aload_n 0, 1) := dk_42 (dk_at dksX11_seed_0 11 rfl rfl)
theorem dX11_seed_12 : decode cX11_seed 12 = .ok (.iload_n 1, 1) := dk_27 (dk_at dksX11_seed_0 12 rfl rfl)
theorem dX11_seed_13 : decode cX11_seed 13 = .ok (.i2l, 1) := dk_133 (dk_at dksX11_seed_0 13 rfl rfl)
theorem dX11_seed_14 : decode cX11_seed 14 = .ok (.putfield 146, 3) := dk_181 0 146 (dk_at dksX11_seed_0 14 rfl rfl)
theorem dX11_seed_17 : decode cX11_seed 17 = .ok (.iconst 1, 1) := dk_4 (dk_at dksX11_seed_0 17 rfl rfl)
theorem dX11_seed_18 : decode cX11_seed 18 = .ok (.ireturn, 1) := dk_172 (dk_at dksX11_seed_0 18 rfl rfl)
abbrev cX11_chance : ByteArray := prog_26_method_118_code
def yX11_chance : MethodName := ⟨RX11, "chance", "(I)I"⟩
def dkwX11_chance_3 : List UInt8 := [182, 2, 107, 132, 2, 1, 42, 182, 1, 232, 132, 3, 1, 167, 255, 196, 28, 172]
abbrev dktX11_chance_3 : List UInt8 := dkwX11_chance_3 ++ []
def dkwX11_chance_2 : List UInt8 := [182, 1, 104, 182, 2, 141, 54, 4, 42, 17, 0, 128, 21, 4, 104, 42, 42, 182, 1, 146, 182, 2, 141, 96]
abbrev dktX11_chance_2 : List UInt8 := dkwX11_chance_2 ++ dktX11_chance_3
def dkwX11_chance_1 : List UInt8 := [62, 29, 27, 162, 0, 61, 42, 16, 100, 182, 2, 141, 42, 180, 0, 96, 16, 9, 46, 162, 0, 35, 42, 42]
abbrev dktX11_chance_1 : List UInt8 := dkwX11_chance_1 ++ dktX11_chance_2
def dkwX11_chance_0 : List UInt8 := [42, 27, 4, 16, 100, 182, 2, 75, 154, 0, 9, 42, 6, 182, 1, 77, 172, 42, 182, 2, 127, 3, 61, 3]
abbrev dktX11_chance_0 : List UInt8 := dkwX11_chance_0 ++ dktX11_chance_1
theorem dksX11_chance_0 : cX11_chance.data.toList.drop 0 = dktX11_chance_0 := by decide +kernel
theorem dksX11_chance_1 : cX11_chance.data.toList.drop 24 = dktX11_chance_1 := dk_seg dksX11_chance_0 24 rfl rfl
theorem dksX11_chance_2 : cX11_chance.data.toList.drop 48 = dktX11_chance_2 := dk_seg dksX11_chance_1 24 rfl rfl
theorem dksX11_chance_3 : cX11_chance.data.toList.drop 72 = dktX11_chance_3 := dk_seg dksX11_chance_2 24 rfl rfl
theorem dX11_chance_0 : decode cX11_chance 0 = .ok (.aload_n 0, 1) := dk_42 (dk_at dksX11_chance_0 0 rfl rfl)
theorem dX11_chance_1 : decode cX11_chance 1 = .ok (.iload_n 1, 1) := dk_27 (dk_at dksX11_chance_0 1 rfl rfl)
theorem dX11_chance_2 : decode cX11_chance 2 = .ok (.iconst 1, 1) := dk_4 (dk_at dksX11_chance_0 2 rfl rfl)
theorem dX11_chance_3 : decode cX11_chance 3 = .ok (.bipush 100, 2) := dk_16 100 (dk_at dksX11_chance_0 3 rfl rfl)
theorem dX11_chance_5 : decode cX11_chance 5 = .ok (.invokevirtual 587, 3) := dk_182 2 75 (dk_at dksX11_chance_0 5 rfl rfl)
theorem dX11_chance_8 : decode cX11_chance 8 = .ok (.ifCond .ne 9, 3) := dk_154 0 9 (dk_at dksX11_chance_0 8 rfl rfl)
theorem dX11_chance_11 : decode cX11_chance 11 = .ok (.aload_n 0, 1) := dk_42 (dk_at dksX11_chance_0 11 rfl rfl)
theorem dX11_chance_12 : decode cX11_chance 12 = .ok (.iconst 3, 1) := dk_6 (dk_at dksX11_chance_0 12 rfl rfl)
theorem dX11_chance_13 : decode cX11_chance 13 = .ok (.invokevirtual 333, 3) := dk_182 1 77 (dk_at dksX11_chance_0 13 rfl rfl)
theorem dX11_chance_16 : decode cX11_chance 16 = .ok (.ireturn, 1) := dk_172 (dk_at dksX11_chance_0 16 rfl rfl)
theorem dX11_chance_17 : decode cX11_chance 17 = .ok (.aload_n 0, 1) := dk_42 (dk_at dksX11_chance_0 17 rfl rfl)
theorem dX11_chance_18 : decode cX11_chance 18 = .ok (.invokevirtual 639, 3) := dk_182 2 127 (dk_at dksX11_chance_0 18 rfl rfl)
theorem dX11_chance_21 : decode cX11_chance 21 = .ok (.iconst 0, 1) := dk_3 (dk_at dksX11_chance_0 21 rfl rfl)
theorem dX11_chance_22 : decode cX11_chance 22 = .ok (.istore_n 2, 1) := dk_61 (dk_at dksX11_chance_0 22 rfl rfl)
theorem dX11_chance_23 : decode cX11_chance 23 = .ok (.iconst 0, 1) := dk_3 (dk_at dksX11_chance_0 23 rfl rfl)
theorem dX11_chance_24 : decode cX11_chance 24 = .ok (.istore_n 3, 1) := dk_62 (dk_at dksX11_chance_1 0 rfl rfl)
theorem dX11_chance_25 : decode cX11_chance 25 = .ok (.iload_n 3, 1) := dk_29 (dk_at dksX11_chance_1 1 rfl rfl)
theorem dX11_chance_26 : decode cX11_chance 26 = .ok (.iload_n 1, 1) := dk_27 (dk_at dksX11_chance_1 2 rfl rfl)
theorem dX11_chance_27 : decode cX11_chance 27 = .ok (.if_icmp .ge 61, 3) := dk_162 0 61 (dk_at dksX11_chance_1 3 rfl rfl)
theorem dX11_chance_30 : decode cX11_chance 30 = .ok (.aload_n 0, 1) := dk_42 (dk_at dksX11_chance_1 6 rfl rfl)
theorem dX11_chance_31 : decode cX11_chance 31 = .ok (.bipush 100, 2) := dk_16 100 (dk_at dksX11_chance_1 7 rfl rfl)
theorem dX11_chance_33 : decode cX11_chance 33 = .ok (.invokevirtual 653, 3) := dk_182 2 141 (dk_at dksX11_chance_1 9 rfl rfl)
theorem dX11_chance_36 : decode cX11_chance 36 = .ok (.aload_n 0, 1) := dk_42 (dk_at dksX11_chance_1 12 rfl rfl)
theorem dX11_chance_37 : decode cX11_chance 37 = .ok (.getfield 96, 3) := dk_180 0 96 (dk_at dksX11_chance_1 13 rfl rfl)
theorem dX11_chance_40 : decode cX11_chance 40 = .ok (.bipush 9, 2) := dk_16 9 (dk_at dksX11_chance_1 16 rfl rfl)
theorem dX11_chance_42 : decode cX11_chance 42 = .ok (.iaload, 1) := dk_46 (dk_at dksX11_chance_1 18 rfl rfl)
theorem dX11_chance_43 : decode cX11_chance 43 = .ok (.if_icmp .ge 35, 3) := dk_162 0 35 (dk_at dksX11_chance_1 19 rfl rfl)
theorem dX11_chance_46 : decode cX11_chance 46 = .ok (.aload_n 0, 1) := dk_42 (dk_at dksX11_chance_1 22 rfl rfl)
theorem dX11_chance_47 : decode cX11_chance 47 = .ok (.aload_n 0, 1) := dk_42 (dk_at dksX11_chance_1 23 rfl rfl)
theorem dX11_chance_48 : decode cX11_chance 48 = .ok (.invokevirtual 360, 3) := dk_182 1 104 (dk_at dksX11_chance_2 0 rfl rfl)
theorem dX11_chance_51 : decode cX11_chance 51 = .ok (.invokevirtual 653, 3) := dk_182 2 141 (dk_at dksX11_chance_2 3 rfl rfl)
theorem dX11_chance_54 : decode cX11_chance 54 = .ok (.istore 4, 2) := dk_54 4 (dk_at dksX11_chance_2 6 rfl rfl)
theorem dX11_chance_56 : decode cX11_chance 56 = .ok (.aload_n 0, 1) := dk_42 (dk_at dksX11_chance_2 8 rfl rfl)
theorem dX11_chance_57 : decode cX11_chance 57 = .ok (.sipush 128, 3) := dk_17 0 128 (dk_at dksX11_chance_2 9 rfl rfl)
theorem dX11_chance_60 : decode cX11_chance 60 = .ok (.iload 4, 2) := dk_21 4 (dk_at dksX11_chance_2 12 rfl rfl)
theorem dX11_chance_62 : decode cX11_chance 62 = .ok (.imul, 1) := dk_104 (dk_at dksX11_chance_2 14 rfl rfl)
theorem dX11_chance_63 : decode cX11_chance 63 = .ok (.aload_n 0, 1) := dk_42 (dk_at dksX11_chance_2 15 rfl rfl)
theorem dX11_chance_64 : decode cX11_chance 64 = .ok (.aload_n 0, 1) := dk_42 (dk_at dksX11_chance_2 16 rfl rfl)
theorem dX11_chance_65 : decode cX11_chance 65 = .ok (.invokevirtual 402, 3) := dk_182 1 146 (dk_at dksX11_chance_2 17 rfl rfl)
theorem dX11_chance_68 : decode cX11_chance 68 = .ok (.invokevirtual 653, 3) := dk_182 2 141 (dk_at dksX11_chance_2 20 rfl rfl)
theorem dX11_chance_71 : decode cX11_chance 71 = .ok (.iadd, 1) := dk_96 (dk_at dksX11_chance_2 23 rfl rfl)
theorem dX11_chance_72 : decode cX11_chance 72 = .ok (.invokevirtual 619, 3) := dk_182 2 107 (dk_at dksX11_chance_3 0 rfl rfl)
theorem dX11_chance_75 : decode cX11_chance 75 = .ok (.iinc 2 1, 3) := dk_132 2 1 (dk_at dksX11_chance_3 3 rfl rfl)
theorem dX11_chance_78 : decode cX11_chance 78 = .ok (.aload_n 0, 1) := dk_42 (dk_at dksX11_chance_3 6 rfl rfl)
theorem dX11_chance_79 : decode cX11_chance 79 = .ok (.invokevirtual 488, 3) := dk_182 1 232 (dk_at dksX11_chance_3 7 rfl rfl)
theorem dX11_chance_82 : decode cX11_chance 82 = .ok (.iinc 3 1, 3) := dk_132 3 1 (dk_at dksX11_chance_3 10 rfl rfl)
theorem dX11_chance_85 : decode cX11_chance 85 = .ok (.goto (-60), 3) := dk_167 255 196 (dk_at dksX11_chance_3 13 rfl rfl)
theorem dX11_chance_88 : decode cX11_chance 88 = .ok (.iload_n 2, 1) := dk_28 (dk_at dksX11_chance_3 16 rfl rfl)
theorem dX11_chance_89 : decode cX11_chance 89 = .ok (.ireturn, 1) := dk_172 (dk_at dksX11_chance_3 17 rfl rfl)
abbrev cX11_drawOf : ByteArray := prog_26_method_117_code
def yX11_drawOf : MethodName := ⟨RX11, "drawOf", "(I)I"⟩
def dkwX11_drawOf_1 : List UInt8 := [20, 2, 139, 109, 27, 133, 113, 136, 172]
abbrev dktX11_drawOf_1 : List UInt8 := dkwX11_drawOf_1 ++ []
def dkwX11_drawOf_0 : List UInt8 := [42, 20, 2, 133, 42, 180, 0, 146, 105, 20, 2, 135, 97, 20, 2, 137, 113, 181, 0, 146, 42, 180, 0, 146]
abbrev dktX11_drawOf_0 : List UInt8 := dkwX11_drawOf_0 ++ dktX11_drawOf_1
theorem dksX11_drawOf_0 : cX11_drawOf.data.toList.drop 0 = dktX11_drawOf_0 := by decide +kernel
theorem dksX11_drawOf_1 : cX11_drawOf.data.toList.drop 24 = dktX11_drawOf_1 := dk_seg dksX11_drawOf_0 24 rfl rfl
theorem dX11_drawOf_0 : decode cX11_drawOf 0 = .ok (.aload_n 0, 1) := dk_42 (dk_at dksX11_drawOf_0 0 rfl rfl)
theorem dX11_drawOf_1 : decode cX11_drawOf 1 = .ok (.ldc2_w 645, 3) := dk_20 2 133 (dk_at dksX11_drawOf_0 1 rfl rfl)
theorem dX11_drawOf_4 : decode cX11_drawOf 4 = .ok (.aload_n 0, 1) := dk_42 (dk_at dksX11_drawOf_0 4 rfl rfl)
theorem dX11_drawOf_5 : decode cX11_drawOf 5 = .ok (.getfield 146, 3) := dk_180 0 146 (dk_at dksX11_drawOf_0 5 rfl rfl)
theorem dX11_drawOf_8 : decode cX11_drawOf 8 = .ok (.lmul, 1) := dk_105 (dk_at dksX11_drawOf_0 8 rfl rfl)
theorem dX11_drawOf_9 : decode cX11_drawOf 9 = .ok (.ldc2_w 647, 3) := dk_20 2 135 (dk_at dksX11_drawOf_0 9 rfl rfl)
theorem dX11_drawOf_12 : decode cX11_drawOf 12 = .ok (.ladd, 1) := dk_97 (dk_at dksX11_drawOf_0 12 rfl rfl)
theorem dX11_drawOf_13 : decode cX11_drawOf 13 = .ok (.ldc2_w 649, 3) := dk_20 2 137 (dk_at dksX11_drawOf_0 13 rfl rfl)
theorem dX11_drawOf_16 : decode cX11_drawOf 16 = .ok (.lrem, 1) := dk_113 (dk_at dksX11_drawOf_0 16 rfl rfl)
theorem dX11_drawOf_17 : decode cX11_drawOf 17 = .ok (.putfield 146, 3) := dk_181 0 146 (dk_at dksX11_drawOf_0 17 rfl rfl)
theorem dX11_drawOf_20 : decode cX11_drawOf 20 = .ok (.aload_n 0, 1) := dk_42 (dk_at dksX11_drawOf_0 20 rfl rfl)
theorem dX11_drawOf_21 : decode cX11_drawOf 21 = .ok (.getfield 146, 3) := dk_180 0 146 (dk_at dksX11_drawOf_0 21 rfl rfl)
theorem dX11_drawOf_24 : decode cX11_drawOf 24 = .ok (.ldc2_w 651, 3) := dk_20 2 139 (dk_at dksX11_drawOf_1 0 rfl rfl)
theorem dX11_drawOf_27 : decode cX11_drawOf 27 = .ok (.ldiv, 1) := dk_109 (dk_at dksX11_drawOf_1 3 rfl rfl)
theorem dX11_drawOf_28 : decode cX11_drawOf 28 = .ok (.iload_n 1, 1) := dk_27 (dk_at dksX11_drawOf_1 4 rfl rfl)
theorem dX11_drawOf_29 : decode cX11_drawOf 29 = .ok (.i2l, 1) := dk_133 (dk_at dksX11_drawOf_1 5 rfl rfl)
theorem dX11_drawOf_30 : decode cX11_drawOf 30 = .ok (.lrem, 1) := dk_113 (dk_at dksX11_drawOf_1 6 rfl rfl)
theorem dX11_drawOf_31 : decode cX11_drawOf 31 = .ok (.l2i, 1) := dk_136 (dk_at dksX11_drawOf_1 7 rfl rfl)
theorem dX11_drawOf_32 : decode cX11_drawOf 32 = .ok (.ireturn, 1) := dk_172 (dk_at dksX11_drawOf_1 8 rfl rfl)
abbrev cX11_snap : ByteArray := prog_26_method_119_code
def yX11_snap : MethodName := ⟨RX11, "snap", "()I"⟩
def dkwX11_snap_4 : List UInt8 := [16, 9, 46, 172]
abbrev dktX11_snap_4 : List UInt8 := dkwX11_snap_4 ++ []
def dkwX11_snap_3 : List UInt8 := [27, 96, 42, 180, 0, 111, 17, 0, 144, 27, 96, 46, 79, 132, 1, 1, 167, 255, 227, 42, 180, 0, 111]
abbrev dktX11_snap_3 : List UInt8 := dkwX11_snap_3 ++ dktX11_snap_4
def dkwX11_snap_2 : List UInt8 := [16, 9, 42, 180, 0, 111, 5, 46, 79, 3, 60, 27, 16, 16, 162, 0, 29, 42, 180, 0, 111, 17, 0, 160]
abbrev dktX11_snap_2 : List UInt8 := dkwX11_snap_2 ++ dktX11_snap_3
def dkwX11_snap_1 : List UInt8 := [46, 42, 180, 0, 111, 5, 46, 160, 0, 9, 42, 7, 182, 1, 77, 172, 42, 182, 2, 127, 42, 180, 0, 111]
abbrev dktX11_snap_1 : List UInt8 := dkwX11_snap_1 ++ dktX11_snap_2
def dkwX11_snap_0 : List UInt8 := [42, 180, 1, 84, 153, 0, 30, 42, 180, 0, 111, 16, 10, 46, 4, 159, 0, 19, 42, 180, 0, 111, 16, 9]
abbrev dktX11_snap_0 : List UInt8 := dkwX11_snap_0 ++ dktX11_snap_1
theorem dksX11_snap_0 : cX11_snap.data.toList.drop 0 = dktX11_snap_0 := by decide +kernel
theorem dksX11_snap_1 : cX11_snap.data.toList.drop 24 = dktX11_snap_1 := dk_seg dksX11_snap_0 24 rfl rfl
theorem dksX11_snap_2 : cX11_snap.data.toList.drop 48 = dktX11_snap_2 := dk_seg dksX11_snap_1 24 rfl rfl
theorem dksX11_snap_3 : cX11_snap.data.toList.drop 72 = dktX11_snap_3 := dk_seg dksX11_snap_2 24 rfl rfl
theorem dksX11_snap_4 : cX11_snap.data.toList.drop 95 = dktX11_snap_4 := dk_seg dksX11_snap_3 23 rfl rfl
theorem dX11_snap_0 : decode cX11_snap 0 = .ok (.aload_n 0, 1) := dk_42 (dk_at dksX11_snap_0 0 rfl rfl)
theorem dX11_snap_1 : decode cX11_snap 1 = .ok (.getfield 340, 3) := dk_180 1 84 (dk_at dksX11_snap_0 1 rfl rfl)
theorem dX11_snap_4 : decode cX11_snap 4 = .ok (.ifCond .eq 30, 3) := dk_153 0 30 (dk_at dksX11_snap_0 4 rfl rfl)
theorem dX11_snap_7 : decode cX11_snap 7 = .ok (.aload_n 0, 1) := dk_42 (dk_at dksX11_snap_0 7 rfl rfl)
theorem dX11_snap_8 : decode cX11_snap 8 = .ok (.getfield 111, 3) := dk_180 0 111 (dk_at dksX11_snap_0 8 rfl rfl)
theorem dX11_snap_11 : decode cX11_snap 11 = .ok (.bipush 10, 2) := dk_16 10 (dk_at dksX11_snap_0 11 rfl rfl)
theorem dX11_snap_13 : decode cX11_snap 13 = .ok (.iaload, 1) := dk_46 (dk_at dksX11_snap_0 13 rfl rfl)
theorem dX11_snap_14 : decode cX11_snap 14 = .ok (.iconst 1, 1) := dk_4 (dk_at dksX11_snap_0 14 rfl rfl)
theorem dX11_snap_15 : decode cX11_snap 15 = .ok (.if_icmp .eq 19, 3) := dk_159 0 19 (dk_at dksX11_snap_0 15 rfl rfl)
theorem dX11_snap_18 : decode cX11_snap 18 = .ok (.aload_n 0, 1) := dk_42 (dk_at dksX11_snap_0 18 rfl rfl)
theorem dX11_snap_19 : decode cX11_snap 19 = .ok (.getfield 111, 3) := dk_180 0 111 (dk_at dksX11_snap_0 19 rfl rfl)
theorem dX11_snap_22 : decode cX11_snap 22 = .ok (.bipush 9, 2) := dk_16 9 (dk_at dksX11_snap_0 22 rfl rfl)
theorem dX11_snap_24 : decode cX11_snap 24 = .ok (.iaload, 1) := dk_46 (dk_at dksX11_snap_1 0 rfl rfl)
theorem dX11_snap_25 : decode cX11_snap 25 = .ok (.aload_n 0, 1) := dk_42 (dk_at dksX11_snap_1 1 rfl rfl)
theorem dX11_snap_26 : decode cX11_snap 26 = .ok (.getfield 111, 3) := dk_180 0 111 (dk_at dksX11_snap_1 2 rfl rfl)
theorem dX11_snap_29 : decode cX11_snap 29 = .ok (.iconst 2, 1) := dk_5 (dk_at dksX11_snap_1 5 rfl rfl)
theorem dX11_snap_30 : decode cX11_snap 30 = .ok (.iaload, 1) := dk_46 (dk_at dksX11_snap_1 6 rfl rfl)
theorem dX11_snap_31 : decode cX11_snap 31 = .ok (.if_icmp .ne 9, 3) := dk_160 0 9 (dk_at dksX11_snap_1 7 rfl rfl)
theorem dX11_snap_34 : decode cX11_snap 34 = .ok (.aload_n 0, 1) := dk_42 (dk_at dksX11_snap_1 10 rfl rfl)
theorem dX11_snap_35 : decode cX11_snap 35 = .ok (.iconst 4, 1) := dk_7 (dk_at dksX11_snap_1 11 rfl rfl)
theorem dX11_snap_36 : decode cX11_snap 36 = .ok (.invokevirtual 333, 3) := dk_182 1 77 (dk_at dksX11_snap_1 12 rfl rfl)
theorem dX11_snap_39 : decode cX11_snap 39 = .ok (.ireturn, 1) := dk_172 (dk_at dksX11_snap_1 15 rfl rfl)
theorem dX11_snap_40 : decode cX11_snap 40 = .ok (.aload_n 0, 1) := dk_42 (dk_at dksX11_snap_1 16 rfl rfl)
theorem dX11_snap_41 : decode cX11_snap 41 = .ok (.invokevirtual 639, 3) := dk_182 2 127 (dk_at dksX11_snap_1 17 rfl rfl)
theorem dX11_snap_44 : decode cX11_snap 44 = .ok (.aload_n 0, 1) := dk_42 (dk_at dksX11_snap_1 20 rfl rfl)
theorem dX11_snap_45 : decode cX11_snap 45 = .ok (.getfield 111, 3) := dk_180 0 111 (dk_at dksX11_snap_1 21 rfl rfl)
theorem dX11_snap_48 : decode cX11_snap 48 = .ok (.bipush 9, 2) := dk_16 9 (dk_at dksX11_snap_2 0 rfl rfl)
theorem dX11_snap_50 : decode cX11_snap 50 = .ok (.aload_n 0, 1) := dk_42 (dk_at dksX11_snap_2 2 rfl rfl)
theorem dX11_snap_51 : decode cX11_snap 51 = .ok (.getfield 111, 3) := dk_180 0 111 (dk_at dksX11_snap_2 3 rfl rfl)
theorem dX11_snap_54 : decode cX11_snap 54 = .ok (.iconst 2, 1) := dk_5 (dk_at dksX11_snap_2 6 rfl rfl)
theorem dX11_snap_55 : decode cX11_snap 55 = .ok (.iaload, 1) := dk_46 (dk_at dksX11_snap_2 7 rfl rfl)
theorem dX11_snap_56 : decode cX11_snap 56 = .ok (.iastore, 1) := dk_79 (dk_at dksX11_snap_2 8 rfl rfl)
theorem dX11_snap_57 : decode cX11_snap 57 = .ok (.iconst 0, 1) := dk_3 (dk_at dksX11_snap_2 9 rfl rfl)
theorem dX11_snap_58 : decode cX11_snap 58 = .ok (.istore_n 1, 1) := dk_60 (dk_at dksX11_snap_2 10 rfl rfl)
theorem dX11_snap_59 : decode cX11_snap 59 = .ok (.iload_n 1, 1) := dk_27 (dk_at dksX11_snap_2 11 rfl rfl)
theorem dX11_snap_60 : decode cX11_snap 60 = .ok (.bipush 16, 2) := dk_16 16 (dk_at dksX11_snap_2 12 rfl rfl)
theorem dX11_snap_62 : decode cX11_snap 62 = .ok (.if_icmp .ge 29, 3) := dk_162 0 29 (dk_at dksX11_snap_2 14 rfl rfl)
theorem dX11_snap_65 : decode cX11_snap 65 = .ok (.aload_n 0, 1) := dk_42 (dk_at dksX11_snap_2 17 rfl rfl)
theorem dX11_snap_66 : decode cX11_snap 66 = .ok (.getfield 111, 3) := dk_180 0 111 (dk_at dksX11_snap_2 18 rfl rfl)
theorem dX11_snap_69 : decode cX11_snap 69 = .ok (.sipush 160, 3) := dk_17 0 160 (dk_at dksX11_snap_2 21 rfl rfl)
theorem dX11_snap_72 : decode cX11_snap 72 = .ok (.iload_n 1, 1) := dk_27 (dk_at dksX11_snap_3 0 rfl rfl)
theorem dX11_snap_73 : decode cX11_snap 73 = .ok (.iadd, 1) := dk_96 (dk_at dksX11_snap_3 1 rfl rfl)
theorem dX11_snap_74 : decode cX11_snap 74 = .ok (.aload_n 0, 1) := dk_42 (dk_at dksX11_snap_3 2 rfl rfl)
theorem dX11_snap_75 : decode cX11_snap 75 = .ok (.getfield 111, 3) := dk_180 0 111 (dk_at dksX11_snap_3 3 rfl rfl)
theorem dX11_snap_78 : decode cX11_snap 78 = .ok (.sipush 144, 3) := dk_17 0 144 (dk_at dksX11_snap_3 6 rfl rfl)
theorem dX11_snap_81 : decode cX11_snap 81 = .ok (.iload_n 1, 1) := dk_27 (dk_at dksX11_snap_3 9 rfl rfl)
theorem dX11_snap_82 : decode cX11_snap 82 = .ok (.iadd, 1) := dk_96 (dk_at dksX11_snap_3 10 rfl rfl)
theorem dX11_snap_83 : decode cX11_snap 83 = .ok (.iaload, 1) := dk_46 (dk_at dksX11_snap_3 11 rfl rfl)
theorem dX11_snap_84 : decode cX11_snap 84 = .ok (.iastore, 1) := dk_79 (dk_at dksX11_snap_3 12 rfl rfl)
theorem dX11_snap_85 : decode cX11_snap 85 = .ok (.iinc 1 1, 3) := dk_132 1 1 (dk_at dksX11_snap_3 13 rfl rfl)
theorem dX11_snap_88 : decode cX11_snap 88 = .ok (.goto (-29), 3) := dk_167 255 227 (dk_at dksX11_snap_3 16 rfl rfl)
theorem dX11_snap_91 : decode cX11_snap 91 = .ok (.aload_n 0, 1) := dk_42 (dk_at dksX11_snap_3 19 rfl rfl)
theorem dX11_snap_92 : decode cX11_snap 92 = .ok (.getfield 111, 3) := dk_180 0 111 (dk_at dksX11_snap_3 20 rfl rfl)
theorem dX11_snap_95 : decode cX11_snap 95 = .ok (.bipush 9, 2) := dk_16 9 (dk_at dksX11_snap_4 0 rfl rfl)
theorem dX11_snap_97 : decode cX11_snap 97 = .ok (.iaload, 1) := dk_46 (dk_at dksX11_snap_4 2 rfl rfl)
theorem dX11_snap_98 : decode cX11_snap 98 = .ok (.ireturn, 1) := dk_172 (dk_at dksX11_snap_4 3 rfl rfl)
abbrev cX11_crash : ByteArray := prog_26_method_120_code
def yX11_crash : MethodName := ⟨RX11, "crash", "(I)I"⟩
def dkwX11_crash_1 : List UInt8 := [7, 182, 1, 77, 172, 42, 182, 2, 127, 42, 27, 182, 2, 101, 42, 180, 0, 111, 4, 46, 172]
abbrev dktX11_crash_1 : List UInt8 := dkwX11_crash_1 ++ []
def dkwX11_crash_0 : List UInt8 := [42, 180, 1, 84, 153, 0, 19, 27, 133, 9, 42, 180, 0, 111, 7, 46, 133, 184, 1, 19, 154, 0, 9, 42]
abbrev dktX11_crash_0 : List UInt8 := dkwX11_crash_0 ++ dktX11_crash_1
theorem dksX11_crash_0 : cX11_crash.data.toList.drop 0 = dktX11_crash_0 := by decide +kernel
theorem dksX11_crash_1 : cX11_crash.data.toList.drop 24 = dktX11_crash_1 := dk_seg dksX11_crash_0 24 rfl rfl
theorem dX11_crash_0 : decode cX11_crash 0 = .ok (.aload_n 0, 1) := dk_42 (dk_at dksX11_crash_0 0 rfl rfl)
theorem dX11_crash_1 : decode cX11_crash 1 = .ok (.getfield 340, 3) := dk_180 1 84 (dk_at dksX11_crash_0 1 rfl rfl)
theorem dX11_crash_4 : decode cX11_crash 4 = .ok (.ifCond .eq 19, 3) := dk_153 0 19 (dk_at dksX11_crash_0 4 rfl rfl)
theorem dX11_crash_7 : decode cX11_crash 7 = .ok (.iload_n 1, 1) := dk_27 (dk_at dksX11_crash_0 7 rfl rfl)
theorem dX11_crash_8 : decode cX11_crash 8 = .ok (.i2l, 1) := dk_133 (dk_at dksX11_crash_0 8 rfl rfl)
theorem dX11_crash_9 : decode cX11_crash 9 = .ok (.lconst 0, 1) := dk_9 (dk_at dksX11_crash_0 9 rfl rfl)
theorem dX11_crash_10 : decode cX11_crash 10 = .ok (.aload_n 0, 1) := dk_42 (dk_at dksX11_crash_0 10 rfl rfl)
theorem dX11_crash_11 : decode cX11_crash 11 = .ok (.getfield 111, 3) := dk_180 0 111 (dk_at dksX11_crash_0 11 rfl rfl)
theorem dX11_crash_14 : decode cX11_crash 14 = .ok (.iconst 4, 1) := dk_7 (dk_at dksX11_crash_0 14 rfl rfl)
theorem dX11_crash_15 : decode cX11_crash 15 = .ok (.iaload, 1) := dk_46 (dk_at dksX11_crash_0 15 rfl rfl)
theorem dX11_crash_16 : decode cX11_crash 16 = .ok (.i2l, 1) := dk_133 (dk_at dksX11_crash_0 16 rfl rfl)
theorem dX11_crash_17 : decode cX11_crash 17 = .ok (.invokestatic 275, 3) := dk_184 1 19 (dk_at dksX11_crash_0 17 rfl rfl)
theorem dX11_crash_20 : decode cX11_crash 20 = .ok (.ifCond .ne 9, 3) := dk_154 0 9 (dk_at dksX11_crash_0 20 rfl rfl)
theorem dX11_crash_23 : decode cX11_crash 23 = .ok (.aload_n 0, 1) := dk_42 (dk_at dksX11_crash_0 23 rfl rfl)
theorem dX11_crash_24 : decode cX11_crash 24 = .ok (.iconst 4, 1) := dk_7 (dk_at dksX11_crash_1 0 rfl rfl)
theorem dX11_crash_25 : decode cX11_crash 25 = .ok (.invokevirtual 333, 3) := dk_182 1 77 (dk_at dksX11_crash_1 1 rfl rfl)
theorem dX11_crash_28 : decode cX11_crash 28 = .ok (.ireturn, 1) := dk_172 (dk_at dksX11_crash_1 4 rfl rfl)
theorem dX11_crash_29 : decode cX11_crash 29 = .ok (.aload_n 0, 1) := dk_42 (dk_at dksX11_crash_1 5 rfl rfl)
theorem dX11_crash_30 : decode cX11_crash 30 = .ok (.invokevirtual 639, 3) := dk_182 2 127 (dk_at dksX11_crash_1 6 rfl rfl)
theorem dX11_crash_33 : decode cX11_crash 33 = .ok (.aload_n 0, 1) := dk_42 (dk_at dksX11_crash_1 9 rfl rfl)
theorem dX11_crash_34 : decode cX11_crash 34 = .ok (.iload_n 1, 1) := dk_27 (dk_at dksX11_crash_1 10 rfl rfl)
theorem dX11_crash_35 : decode cX11_crash 35 = .ok (.invokevirtual 613, 3) := dk_182 2 101 (dk_at dksX11_crash_1 11 rfl rfl)
theorem dX11_crash_38 : decode cX11_crash 38 = .ok (.aload_n 0, 1) := dk_42 (dk_at dksX11_crash_1 14 rfl rfl)
theorem dX11_crash_39 : decode cX11_crash 39 = .ok (.getfield 111, 3) := dk_180 0 111 (dk_at dksX11_crash_1 15 rfl rfl)
theorem dX11_crash_42 : decode cX11_crash 42 = .ok (.iconst 1, 1) := dk_4 (dk_at dksX11_crash_1 18 rfl rfl)
theorem dX11_crash_43 : decode cX11_crash 43 = .ok (.iaload, 1) := dk_46 (dk_at dksX11_crash_1 19 rfl rfl)
theorem dX11_crash_44 : decode cX11_crash 44 = .ok (.ireturn, 1) := dk_172 (dk_at dksX11_crash_1 20 rfl rfl)
abbrev cX11_giveUp : ByteArray := prog_26_method_121_code
def yX11_giveUp : MethodName := ⟨RX11, "giveUp", "()I"⟩
def dkwX11_giveUp_6 : List UInt8 := [153, 0, 14, 42, 3, 42, 180, 0, 111, 4, 46, 182, 1, 88, 27, 172]
abbrev dktX11_giveUp_6 : List UInt8 := dkwX11_giveUp_6 ++ []
def dkwX11_giveUp_5 : List UInt8 := [29, 3, 182, 2, 49, 96, 60, 132, 3, 1, 167, 255, 169, 42, 180, 0, 111, 16, 10, 3, 79, 28]
abbrev dktX11_giveUp_5 : List UInt8 := dkwX11_giveUp_5 ++ dktX11_giveUp_6
def dkwX11_giveUp_4 : List UInt8 := [29, 182, 2, 23, 153, 0, 27, 42, 29, 182, 1, 241, 42, 180, 0, 111, 16, 7, 46, 164, 0, 12, 27, 42]
abbrev dktX11_giveUp_4 : List UInt8 := dkwX11_giveUp_4 ++ dktX11_giveUp_5
def dkwX11_giveUp_3 : List UInt8 := [8, 46, 160, 0, 21, 27, 42, 29, 42, 180, 0, 111, 16, 6, 46, 182, 2, 49, 96, 60, 167, 0, 35, 42]
abbrev dktX11_giveUp_3 : List UInt8 := dkwX11_giveUp_3 ++ dktX11_giveUp_4
def dkwX11_giveUp_2 : List UInt8 := [162, 0, 85, 28, 153, 0, 15, 27, 42, 29, 3, 182, 2, 49, 96, 60, 167, 0, 63, 29, 42, 180, 0, 111]
abbrev dktX11_giveUp_2 : List UInt8 := dkwX11_giveUp_2 ++ dktX11_giveUp_3
def dkwX11_giveUp_1 : List UInt8 := [180, 0, 111, 16, 7, 46, 154, 0, 7, 4, 167, 0, 4, 3, 61, 3, 62, 29, 42, 182, 1, 104]
abbrev dktX11_giveUp_1 : List UInt8 := dkwX11_giveUp_1 ++ dktX11_giveUp_2
def dkwX11_giveUp_0 : List UInt8 := [42, 180, 0, 111, 16, 10, 46, 154, 0, 9, 42, 7, 182, 1, 77, 172, 42, 182, 2, 127, 3, 60, 42]
abbrev dktX11_giveUp_0 : List UInt8 := dkwX11_giveUp_0 ++ dktX11_giveUp_1
theorem dksX11_giveUp_0 : cX11_giveUp.data.toList.drop 0 = dktX11_giveUp_0 := by decide +kernel
theorem dksX11_giveUp_1 : cX11_giveUp.data.toList.drop 23 = dktX11_giveUp_1 := dk_seg dksX11_giveUp_0 23 rfl rfl
theorem dksX11_giveUp_2 : cX11_giveUp.data.toList.drop 45 = dktX11_giveUp_2 := dk_seg dksX11_giveUp_1 22 rfl rfl
theorem dksX11_giveUp_3 : cX11_giveUp.data.toList.drop 69 = dktX11_giveUp_3 := dk_seg dksX11_giveUp_2 24 rfl rfl
theorem dksX11_giveUp_4 : cX11_giveUp.data.toList.drop 93 = dktX11_giveUp_4 := dk_seg dksX11_giveUp_3 24 rfl rfl
theorem dksX11_giveUp_5 : cX11_giveUp.data.toList.drop 117 = dktX11_giveUp_5 := dk_seg dksX11_giveUp_4 24 rfl rfl
theorem dksX11_giveUp_6 : cX11_giveUp.data.toList.drop 139 = dktX11_giveUp_6 := dk_seg dksX11_giveUp_5 22 rfl rfl
theorem dX11_giveUp_0 : decode cX11_giveUp 0 = .ok (.aload_n 0, 1) := dk_42 (dk_at dksX11_giveUp_0 0 rfl rfl)
theorem dX11_giveUp_1 : decode cX11_giveUp 1 = .ok (.getfield 111, 3) := dk_180 0 111 (dk_at dksX11_giveUp_0 1 rfl rfl)
theorem dX11_giveUp_4 : decode cX11_giveUp 4 = .ok (.bipush 10, 2) := dk_16 10 (dk_at dksX11_giveUp_0 4 rfl rfl)
theorem dX11_giveUp_6 : decode cX11_giveUp 6 = .ok (.iaload, 1) := dk_46 (dk_at dksX11_giveUp_0 6 rfl rfl)
theorem dX11_giveUp_7 : decode cX11_giveUp 7 = .ok (.ifCond .ne 9, 3) := dk_154 0 9 (dk_at dksX11_giveUp_0 7 rfl rfl)
theorem dX11_giveUp_10 : decode cX11_giveUp 10 = .ok (.aload_n 0, 1) := dk_42 (dk_at dksX11_giveUp_0 10 rfl rfl)
theorem dX11_giveUp_11 : decode cX11_giveUp 11 = .ok (.iconst 4, 1) := dk_7 (dk_at dksX11_giveUp_0 11 rfl rfl)
theorem dX11_giveUp_12 : decode cX11_giveUp 12 = .ok (.invokevirtual 333, 3) := dk_182 1 77 (dk_at dksX11_giveUp_0 12 rfl rfl)
theorem dX11_giveUp_15 : decode cX11_giveUp 15 = .ok (.ireturn, 1) := dk_172 (dk_at dksX11_giveUp_0 15 rfl rfl)
theorem dX11_giveUp_16 : decode cX11_giveUp 16 = .ok (.aload_n 0, 1) := dk_42 (dk_at dksX11_giveUp_0 16 rfl rfl)
theorem dX11_giveUp_17 : decode cX11_giveUp 17 = .ok (.invokevirtual 639, 3) := dk_182 2 127 (dk_at dksX11_giveUp_0 17 rfl rfl)
theorem dX11_giveUp_20 : decode cX11_giveUp 20 = .ok (.iconst 0, 1) := dk_3 (dk_at dksX11_giveUp_0 20 rfl rfl)
theorem dX11_giveUp_21 : decode cX11_giveUp 21 = .ok (.istore_n 1, 1) := dk_60 (dk_at dksX11_giveUp_0 21 rfl rfl)
theorem dX11_giveUp_22 : decode cX11_giveUp 22 = .ok (.aload_n 0, 1) := dk_42 (dk_at dksX11_giveUp_0 22 rfl rfl)
theorem dX11_giveUp_23 : decode cX11_giveUp 23 = .ok (.getfield 111, 3) := dk_180 0 111 (dk_at dksX11_giveUp_1 0 rfl rfl)
theorem dX11_giveUp_26 : decode cX11_giveUp 26 = .ok (.bipush 7, 2) := dk_16 7 (dk_at dksX11_giveUp_1 3 rfl rfl)
theorem dX11_giveUp_28 : decode cX11_giveUp 28 = .ok (.iaload, 1) := dk_46 (dk_at dksX11_giveUp_1 5 rfl rfl)
theorem dX11_giveUp_29 : decode cX11_giveUp 29 = .ok (.ifCond .ne 7, 3) := dk_154 0 7 (dk_at dksX11_giveUp_1 6 rfl rfl)
theorem dX11_giveUp_32 : decode cX11_giveUp 32 = .ok (.iconst 1, 1) := dk_4 (dk_at dksX11_giveUp_1 9 rfl rfl)
theorem dX11_giveUp_33 : decode cX11_giveUp 33 = .ok (.goto 4, 3) := dk_167 0 4 (dk_at dksX11_giveUp_1 10 rfl rfl)
theorem dX11_giveUp_36 : decode cX11_giveUp 36 = .ok (.iconst 0, 1) := dk_3 (dk_at dksX11_giveUp_1 13 rfl rfl)
theorem dX11_giveUp_37 : decode cX11_giveUp 37 = .ok (.istore_n 2, 1) := dk_61 (dk_at dksX11_giveUp_1 14 rfl rfl)
theorem dX11_giveUp_38 : decode cX11_giveUp 38 = .ok (.iconst 0, 1) := dk_3 (dk_at dksX11_giveUp_1 15 rfl rfl)
theorem dX11_giveUp_39 : decode cX11_giveUp 39 = .ok (.istore_n 3, 1) := dk_62 (dk_at dksX11_giveUp_1 16 rfl rfl)
theorem dX11_giveUp_40 : decode cX11_giveUp 40 = .ok (.iload_n 3, 1) := dk_29 (dk_at dksX11_giveUp_1 17 rfl rfl)
theorem dX11_giveUp_41 : decode cX11_giveUp 41 = .ok (.aload_n 0, 1) := dk_42 (dk_at dksX11_giveUp_1 18 rfl rfl)
theorem dX11_giveUp_42 : decode cX11_giveUp 42 = .ok (.invokevirtual 360, 3) := dk_182 1 104 (dk_at dksX11_giveUp_1 19 rfl rfl)
theorem dX11_giveUp_45 : decode cX11_giveUp 45 = .ok (.if_icmp .ge 85, 3) := dk_162 0 85 (dk_at dksX11_giveUp_2 0 rfl rfl)
theorem dX11_giveUp_48 : decode cX11_giveUp 48 = .ok (.iload_n 2, 1) := dk_28 (dk_at dksX11_giveUp_2 3 rfl rfl)
theorem dX11_giveUp_49 : decode cX11_giveUp 49 = .ok (.ifCond .eq 15, 3) := dk_153 0 15 (dk_at dksX11_giveUp_2 4 rfl rfl)
theorem dX11_giveUp_52 : decode cX11_giveUp 52 = .ok (.iload_n 1, 1) := dk_27 (dk_at dksX11_giveUp_2 7 rfl rfl)
theorem dX11_giveUp_53 : decode cX11_giveUp 53 = .ok (.aload_n 0, 1) := dk_42 (dk_at dksX11_giveUp_2 8 rfl rfl)
theorem dX11_giveUp_54 : decode cX11_giveUp 54 = .ok (.iload_n 3, 1) := dk_29 (dk_at dksX11_giveUp_2 9 rfl rfl)
theorem dX11_giveUp_55 : decode cX11_giveUp 55 = .ok (.iconst 0, 1) := dk_3 (dk_at dksX11_giveUp_2 10 rfl rfl)
theorem dX11_giveUp_56 : decode cX11_giveUp 56 = .ok (.invokevirtual 561, 3) := dk_182 2 49 (dk_at dksX11_giveUp_2 11 rfl rfl)
theorem dX11_giveUp_59 : decode cX11_giveUp 59 = .ok (.iadd, 1) := dk_96 (dk_at dksX11_giveUp_2 14 rfl rfl)
theorem dX11_giveUp_60 : decode cX11_giveUp 60 = .ok (.istore_n 1, 1) := dk_60 (dk_at dksX11_giveUp_2 15 rfl rfl)
theorem dX11_giveUp_61 : decode cX11_giveUp 61 = .ok (.goto 63, 3) := dk_167 0 63 (dk_at dksX11_giveUp_2 16 rfl rfl)
theorem dX11_giveUp_64 : decode cX11_giveUp 64 = .ok (.iload_n 3, 1) := dk_29 (dk_at dksX11_giveUp_2 19 rfl rfl)
theorem dX11_giveUp_65 : decode cX11_giveUp 65 = .ok (.aload_n 0, 1) := dk_42 (dk_at dksX11_giveUp_2 20 rfl rfl)
theorem dX11_giveUp_66 : decode cX11_giveUp 66 = .ok (.getfield 111, 3) := dk_180 0 111 (dk_at dksX11_giveUp_2 21 rfl rfl)
theorem dX11_giveUp_69 : decode cX11_giveUp 69 = .ok (.iconst 5, 1) := dk_8 (dk_at dksX11_giveUp_3 0 rfl rfl)
theorem dX11_giveUp_70 : decode cX11_giveUp 70 = .ok (.iaload, 1) := dk_46 (dk_at dksX11_giveUp_3 1 rfl rfl)
theorem dX11_giveUp_71 : decode cX11_giveUp 71 = .ok (.if_icmp .ne 21, 3) := dk_160 0 21 (dk_at dksX11_giveUp_3 2 rfl rfl)
theorem dX11_giveUp_74 : decode cX11_giveUp 74 = .ok (.iload_n 1, 1) := dk_27 (dk_at dksX11_giveUp_3 5 rfl rfl)
theorem dX11_giveUp_75 : decode cX11_giveUp 75 = .ok (.aload_n 0, 1) := dk_42 (dk_at dksX11_giveUp_3 6 rfl rfl)
theorem dX11_giveUp_76 : decode cX11_giveUp 76 = .ok (.iload_n 3, 1) := dk_29 (dk_at dksX11_giveUp_3 7 rfl rfl)
theorem dX11_giveUp_77 : decode cX11_giveUp 77 = .ok (.aload_n 0, 1) := dk_42 (dk_at dksX11_giveUp_3 8 rfl rfl)
theorem dX11_giveUp_78 : decode cX11_giveUp 78 = .ok (.getfield 111, 3) := dk_180 0 111 (dk_at dksX11_giveUp_3 9 rfl rfl)
theorem dX11_giveUp_81 : decode cX11_giveUp 81 = .ok (.bipush 6, 2) := dk_16 6 (dk_at dksX11_giveUp_3 12 rfl rfl)
theorem dX11_giveUp_83 : decode cX11_giveUp 83 = .ok (.iaload, 1) := dk_46 (dk_at dksX11_giveUp_3 14 rfl rfl)
theorem dX11_giveUp_84 : decode cX11_giveUp 84 = .ok (.invokevirtual 561, 3) := dk_182 2 49 (dk_at dksX11_giveUp_3 15 rfl rfl)
theorem dX11_giveUp_87 : decode cX11_giveUp 87 = .ok (.iadd, 1) := dk_96 (dk_at dksX11_giveUp_3 18 rfl rfl)
theorem dX11_giveUp_88 : decode cX11_giveUp 88 = .ok (.istore_n 1, 1) := dk_60 (dk_at dksX11_giveUp_3 19 rfl rfl)
theorem dX11_giveUp_89 : decode cX11_giveUp 89 = .ok (.goto 35, 3) := dk_167 0 35 (dk_at dksX11_giveUp_3 20 rfl rfl)
theorem dX11_giveUp_92 : decode cX11_giveUp 92 = .ok (.aload_n 0, 1) := dk_42 (dk_at dksX11_giveUp_3 23 rfl rfl)
theorem dX11_giveUp_93 : decode cX11_giveUp 93 = .ok (.iload_n 3, 1) := dk_29 (dk_at dksX11_giveUp_4 0 rfl rfl)
theorem dX11_giveUp_94 : decode cX11_giveUp 94 = .ok (.invokevirtual 535, 3) := dk_182 2 23 (dk_at dksX11_giveUp_4 1 rfl rfl)
theorem dX11_giveUp_97 : decode cX11_giveUp 97 = .ok (.ifCond .eq 27, 3) := dk_153 0 27 (dk_at dksX11_giveUp_4 4 rfl rfl)
theorem dX11_giveUp_100 : decode cX11_giveUp 100 = .ok (.aload_n 0, 1) := dk_42 (dk_at dksX11_giveUp_4 7 rfl rfl)
theorem dX11_giveUp_101 : decode cX11_giveUp 101 = .ok (.iload_n 3, 1) := dk_29 (dk_at dksX11_giveUp_4 8 rfl rfl)
theorem dX11_giveUp_102 : decode cX11_giveUp 102 = .ok (.invokevirtual 497, 3) := dk_182 1 241 (dk_at dksX11_giveUp_4 9 rfl rfl)
theorem dX11_giveUp_105 : decode cX11_giveUp 105 = .ok (.aload_n 0, 1) := dk_42 (dk_at dksX11_giveUp_4 12 rfl rfl)
theorem dX11_giveUp_106 : decode cX11_giveUp 106 = .ok (.getfield 111, 3) := dk_180 0 111 (dk_at dksX11_giveUp_4 13 rfl rfl)
theorem dX11_giveUp_109 : decode cX11_giveUp 109 = .ok (.bipush 7, 2) := dk_16 7 (dk_at dksX11_giveUp_4 16 rfl rfl)
theorem dX11_giveUp_111 : decode cX11_giveUp 111 = .ok (.iaload, 1) := dk_46 (dk_at dksX11_giveUp_4 18 rfl rfl)
theorem dX11_giveUp_112 : decode cX11_giveUp 112 = .ok (.if_icmp .le 12, 3) := dk_164 0 12 (dk_at dksX11_giveUp_4 19 rfl rfl)
theorem dX11_giveUp_115 : decode cX11_giveUp 115 = .ok (.iload_n 1, 1) := dk_27 (dk_at dksX11_giveUp_4 22 rfl rfl)
theorem dX11_giveUp_116 : decode cX11_giveUp 116 = .ok (.aload_n 0, 1) := dk_42 (dk_at dksX11_giveUp_4 23 rfl rfl)
theorem dX11_giveUp_117 : decode cX11_giveUp 117 = .ok (.iload_n 3, 1) := dk_29 (dk_at dksX11_giveUp_5 0 rfl rfl)
theorem dX11_giveUp_118 : decode cX11_giveUp 118 = .ok (.iconst 0, 1) := dk_3 (dk_at dksX11_giveUp_5 1 rfl rfl)
theorem dX11_giveUp_119 : decode cX11_giveUp 119 = .ok (.invokevirtual 561, 3) := dk_182 2 49 (dk_at dksX11_giveUp_5 2 rfl rfl)
theorem dX11_giveUp_122 : decode cX11_giveUp 122 = .ok (.iadd, 1) := dk_96 (dk_at dksX11_giveUp_5 5 rfl rfl)
theorem dX11_giveUp_123 : decode cX11_giveUp 123 = .ok (.istore_n 1, 1) := dk_60 (dk_at dksX11_giveUp_5 6 rfl rfl)
theorem dX11_giveUp_124 : decode cX11_giveUp 124 = .ok (.iinc 3 1, 3) := dk_132 3 1 (dk_at dksX11_giveUp_5 7 rfl rfl)
theorem dX11_giveUp_127 : decode cX11_giveUp 127 = .ok (.goto (-87), 3) := dk_167 255 169 (dk_at dksX11_giveUp_5 10 rfl rfl)
theorem dX11_giveUp_130 : decode cX11_giveUp 130 = .ok (.aload_n 0, 1) := dk_42 (dk_at dksX11_giveUp_5 13 rfl rfl)
theorem dX11_giveUp_131 : decode cX11_giveUp 131 = .ok (.getfield 111, 3) := dk_180 0 111 (dk_at dksX11_giveUp_5 14 rfl rfl)
theorem dX11_giveUp_134 : decode cX11_giveUp 134 = .ok (.bipush 10, 2) := dk_16 10 (dk_at dksX11_giveUp_5 17 rfl rfl)
theorem dX11_giveUp_136 : decode cX11_giveUp 136 = .ok (.iconst 0, 1) := dk_3 (dk_at dksX11_giveUp_5 19 rfl rfl)
theorem dX11_giveUp_137 : decode cX11_giveUp 137 = .ok (.iastore, 1) := dk_79 (dk_at dksX11_giveUp_5 20 rfl rfl)
theorem dX11_giveUp_138 : decode cX11_giveUp 138 = .ok (.iload_n 2, 1) := dk_28 (dk_at dksX11_giveUp_5 21 rfl rfl)
theorem dX11_giveUp_139 : decode cX11_giveUp 139 = .ok (.ifCond .eq 14, 3) := dk_153 0 14 (dk_at dksX11_giveUp_6 0 rfl rfl)
theorem dX11_giveUp_142 : decode cX11_giveUp 142 = .ok (.aload_n 0, 1) := dk_42 (dk_at dksX11_giveUp_6 3 rfl rfl)
theorem dX11_giveUp_143 : decode cX11_giveUp 143 = .ok (.iconst 0, 1) := dk_3 (dk_at dksX11_giveUp_6 4 rfl rfl)
theorem dX11_giveUp_144 : decode cX11_giveUp 144 = .ok (.aload_n 0, 1) := dk_42 (dk_at dksX11_giveUp_6 5 rfl rfl)
theorem dX11_giveUp_145 : decode cX11_giveUp 145 = .ok (.getfield 111, 3) := dk_180 0 111 (dk_at dksX11_giveUp_6 6 rfl rfl)
theorem dX11_giveUp_148 : decode cX11_giveUp 148 = .ok (.iconst 1, 1) := dk_4 (dk_at dksX11_giveUp_6 9 rfl rfl)
theorem dX11_giveUp_149 : decode cX11_giveUp 149 = .ok (.iaload, 1) := dk_46 (dk_at dksX11_giveUp_6 10 rfl rfl)
theorem dX11_giveUp_150 : decode cX11_giveUp 150 = .ok (.invokevirtual 344, 3) := dk_182 1 88 (dk_at dksX11_giveUp_6 11 rfl rfl)
theorem dX11_giveUp_153 : decode cX11_giveUp 153 = .ok (.iload_n 1, 1) := dk_27 (dk_at dksX11_giveUp_6 14 rfl rfl)
theorem dX11_giveUp_154 : decode cX11_giveUp 154 = .ok (.ireturn, 1) := dk_172 (dk_at dksX11_giveUp_6 15 rfl rfl)
abbrev cX11_flip : ByteArray := prog_26_method_122_code
def yX11_flip : MethodName := ⟨RX11, "flip", "(II)I"⟩
def dkwX11_flip_2 : List UInt8 := [182, 1, 238, 172]
abbrev dktX11_flip_2 : List UInt8 := dkwX11_flip_2 ++ []
def dkwX11_flip_1 : List UInt8 := [42, 7, 182, 1, 77, 172, 42, 182, 2, 127, 42, 17, 0, 128, 27, 104, 28, 96, 182, 2, 107, 42, 27, 28]
abbrev dktX11_flip_1 : List UInt8 := dkwX11_flip_1 ++ dktX11_flip_2
def dkwX11_flip_0 : List UInt8 := [42, 27, 182, 2, 58, 153, 0, 19, 28, 133, 9, 42, 182, 1, 146, 4, 100, 133, 184, 1, 19, 154, 0, 9]
abbrev dktX11_flip_0 : List UInt8 := dkwX11_flip_0 ++ dktX11_flip_1
theorem dksX11_flip_0 : cX11_flip.data.toList.drop 0 = dktX11_flip_0 := by decide +kernel
theorem dksX11_flip_1 : cX11_flip.data.toList.drop 24 = dktX11_flip_1 := dk_seg dksX11_flip_0 24 rfl rfl
theorem dksX11_flip_2 : cX11_flip.data.toList.drop 48 = dktX11_flip_2 := dk_seg dksX11_flip_1 24 rfl rfl
theorem dX11_flip_0 : decode cX11_flip 0 = .ok (.aload_n 0, 1) := dk_42 (dk_at dksX11_flip_0 0 rfl rfl)
theorem dX11_flip_1 : decode cX11_flip 1 = .ok (.iload_n 1, 1) := dk_27 (dk_at dksX11_flip_0 1 rfl rfl)
theorem dX11_flip_2 : decode cX11_flip 2 = .ok (.invokevirtual 570, 3) := dk_182 2 58 (dk_at dksX11_flip_0 2 rfl rfl)
theorem dX11_flip_5 : decode cX11_flip 5 = .ok (.ifCond .eq 19, 3) := dk_153 0 19 (dk_at dksX11_flip_0 5 rfl rfl)
theorem dX11_flip_8 : decode cX11_flip 8 = .ok (.iload_n 2, 1) := dk_28 (dk_at dksX11_flip_0 8 rfl rfl)
theorem dX11_flip_9 : decode cX11_flip 9 = .ok (.i2l, 1) := dk_133 (dk_at dksX11_flip_0 9 rfl rfl)
theorem dX11_flip_10 : decode cX11_flip 10 = .ok (.lconst 0, 1) := dk_9 (dk_at dksX11_flip_0 10 rfl rfl)
theorem dX11_flip_11 : decode cX11_flip 11 = .ok (.aload_n 0, 1) := dk_42 (dk_at dksX11_flip_0 11 rfl rfl)
theorem dX11_flip_12 : decode cX11_flip 12 = .ok (.invokevirtual 402, 3) := dk_182 1 146 (dk_at dksX11_flip_0 12 rfl rfl)
theorem dX11_flip_15 : decode cX11_flip 15 = .ok (.iconst 1, 1) := dk_4 (dk_at dksX11_flip_0 15 rfl rfl)
theorem dX11_flip_16 : decode cX11_flip 16 = .ok (.isub, 1) := dk_100 (dk_at dksX11_flip_0 16 rfl rfl)
theorem dX11_flip_17 : decode cX11_flip 17 = .ok (.i2l, 1) := dk_133 (dk_at dksX11_flip_0 17 rfl rfl)
theorem dX11_flip_18 : decode cX11_flip 18 = .ok (.invokestatic 275, 3) := dk_184 1 19 (dk_at dksX11_flip_0 18 rfl rfl)
theorem dX11_flip_21 : decode cX11_flip 21 = .ok (.ifCond .ne 9, 3) := dk_154 0 9 (dk_at dksX11_flip_0 21 rfl rfl)
theorem dX11_flip_24 : decode cX11_flip 24 = .ok (.aload_n 0, 1) := dk_42 (dk_at dksX11_flip_1 0 rfl rfl)
theorem dX11_flip_25 : decode cX11_flip 25 = .ok (.iconst 4, 1) := dk_7 (dk_at dksX11_flip_1 1 rfl rfl)
theorem dX11_flip_26 : decode cX11_flip 26 = .ok (.invokevirtual 333, 3) := dk_182 1 77 (dk_at dksX11_flip_1 2 rfl rfl)
theorem dX11_flip_29 : decode cX11_flip 29 = .ok (.ireturn, 1) := dk_172 (dk_at dksX11_flip_1 5 rfl rfl)
theorem dX11_flip_30 : decode cX11_flip 30 = .ok (.aload_n 0, 1) := dk_42 (dk_at dksX11_flip_1 6 rfl rfl)
theorem dX11_flip_31 : decode cX11_flip 31 = .ok (.invokevirtual 639, 3) := dk_182 2 127 (dk_at dksX11_flip_1 7 rfl rfl)
theorem dX11_flip_34 : decode cX11_flip 34 = .ok (.aload_n 0, 1) := dk_42 (dk_at dksX11_flip_1 10 rfl rfl)
theorem dX11_flip_35 : decode cX11_flip 35 = .ok (.sipush 128, 3) := dk_17 0 128 (dk_at dksX11_flip_1 11 rfl rfl)
theorem dX11_flip_38 : decode cX11_flip 38 = .ok (.iload_n 1, 1) := dk_27 (dk_at dksX11_flip_1 14 rfl rfl)
theorem dX11_flip_39 : decode cX11_flip 39 = .ok (.imul, 1) := dk_104 (dk_at dksX11_flip_1 15 rfl rfl)
theorem dX11_flip_40 : decode cX11_flip 40 = .ok (.iload_n 2, 1) := dk_28 (dk_at dksX11_flip_1 16 rfl rfl)
theorem dX11_flip_41 : decode cX11_flip 41 = .ok (.iadd, 1) := dk_96 (dk_at dksX11_flip_1 17 rfl rfl)
theorem dX11_flip_42 : decode cX11_flip 42 = .ok (.invokevirtual 619, 3) := dk_182 2 107 (dk_at dksX11_flip_1 18 rfl rfl)
theorem dX11_flip_45 : decode cX11_flip 45 = .ok (.aload_n 0, 1) := dk_42 (dk_at dksX11_flip_1 21 rfl rfl)
theorem dX11_flip_46 : decode cX11_flip 46 = .ok (.iload_n 1, 1) := dk_27 (dk_at dksX11_flip_1 22 rfl rfl)
theorem dX11_flip_47 : decode cX11_flip 47 = .ok (.iload_n 2, 1) := dk_28 (dk_at dksX11_flip_1 23 rfl rfl)
theorem dX11_flip_48 : decode cX11_flip 48 = .ok (.invokevirtual 494, 3) := dk_182 1 238 (dk_at dksX11_flip_2 0 rfl rfl)
theorem dX11_flip_51 : decode cX11_flip 51 = .ok (.ireturn, 1) := dk_172 (dk_at dksX11_flip_2 3 rfl rfl)
abbrev cX11_ask : ByteArray := prog_26_method_151_code
def yX11_ask : MethodName := ⟨RX11, "ask", "()J"⟩
def dkwX11_ask_9 : List UInt8 := [132, 2, 1, 167, 255, 229, 42, 180, 2, 217, 173]
abbrev dktX11_ask_9 : List UInt8 := dkwX11_ask_9 ++ []
def dkwX11_ask_8 : List UInt8 := [182, 1, 104, 162, 0, 25, 42, 28, 181, 2, 210, 42, 27, 42, 28, 182, 2, 230, 28, 182, 2, 233]
abbrev dktX11_ask_8 : List UInt8 := dkwX11_ask_8 ++ dktX11_ask_9
def dkwX11_ask_7 : List UInt8 := [5, 162, 0, 9, 20, 2, 220, 167, 0, 4, 9, 181, 2, 217, 42, 4, 181, 2, 222, 3, 61, 28, 42]
abbrev dktX11_ask_7 : List UInt8 := dkwX11_ask_7 ++ dktX11_ask_8
def dkwX11_ask_6 : List UInt8 := [181, 1, 74, 42, 42, 180, 0, 235, 181, 0, 13, 42, 180, 0, 232, 153, 0, 7, 20, 2, 225, 173, 42, 27]
abbrev dktX11_ask_6 : List UInt8 := dkwX11_ask_6 ++ dktX11_ask_7
def dkwX11_ask_5 : List UInt8 := [42, 182, 0, 244, 2, 159, 0, 12, 42, 4, 42, 180, 0, 238, 182, 1, 6, 42, 42, 180, 0, 232]
abbrev dktX11_ask_5 : List UInt8 := dkwX11_ask_5 ++ dktX11_ask_6
def dkwX11_ask_4 : List UInt8 := [182, 1, 50, 167, 0, 14, 42, 180, 0, 232, 154, 0, 7, 42, 182, 1, 53, 42, 180, 0, 232, 154, 0, 20]
abbrev dktX11_ask_4 : List UInt8 := dkwX11_ask_4 ++ dktX11_ask_5
def dkwX11_ask_3 : List UInt8 := [3, 181, 1, 47, 42, 182, 2, 227, 60, 42, 180, 0, 232, 154, 0, 15, 27, 6, 162, 0, 10, 42]
abbrev dktX11_ask_3 : List UInt8 := dkwX11_ask_3 ++ dktX11_ask_4
def dkwX11_ask_2 : List UInt8 := [181, 0, 235, 42, 5, 181, 1, 23, 42, 3, 181, 1, 38, 42, 3, 181, 1, 41, 42, 3, 181, 1, 44, 42]
abbrev dktX11_ask_2 : List UInt8 := dkwX11_ask_2 ++ dktX11_ask_3
def dkwX11_ask_1 : List UInt8 := [42, 3, 181, 0, 229, 42, 3, 181, 0, 238, 42, 2, 181, 0, 252, 42, 3, 181, 0, 232, 42, 2]
abbrev dktX11_ask_1 : List UInt8 := dkwX11_ask_1 ++ dktX11_ask_2
def dkwX11_ask_0 : List UInt8 := [42, 180, 1, 84, 154, 0, 12, 42, 3, 181, 0, 229, 20, 2, 225, 173, 42, 42, 180, 0, 229, 181, 0, 241]
abbrev dktX11_ask_0 : List UInt8 := dkwX11_ask_0 ++ dktX11_ask_1
theorem dksX11_ask_0 : cX11_ask.data.toList.drop 0 = dktX11_ask_0 := by decide +kernel
theorem dksX11_ask_1 : cX11_ask.data.toList.drop 24 = dktX11_ask_1 := dk_seg dksX11_ask_0 24 rfl rfl
theorem dksX11_ask_2 : cX11_ask.data.toList.drop 46 = dktX11_ask_2 := dk_seg dksX11_ask_1 22 rfl rfl
theorem dksX11_ask_3 : cX11_ask.data.toList.drop 70 = dktX11_ask_3 := dk_seg dksX11_ask_2 24 rfl rfl
theorem dksX11_ask_4 : cX11_ask.data.toList.drop 92 = dktX11_ask_4 := dk_seg dksX11_ask_3 22 rfl rfl
theorem dksX11_ask_5 : cX11_ask.data.toList.drop 116 = dktX11_ask_5 := dk_seg dksX11_ask_4 24 rfl rfl
theorem dksX11_ask_6 : cX11_ask.data.toList.drop 138 = dktX11_ask_6 := dk_seg dksX11_ask_5 22 rfl rfl
theorem dksX11_ask_7 : cX11_ask.data.toList.drop 162 = dktX11_ask_7 := dk_seg dksX11_ask_6 24 rfl rfl
theorem dksX11_ask_8 : cX11_ask.data.toList.drop 185 = dktX11_ask_8 := dk_seg dksX11_ask_7 23 rfl rfl
theorem dksX11_ask_9 : cX11_ask.data.toList.drop 207 = dktX11_ask_9 := dk_seg dksX11_ask_8 22 rfl rfl
theorem dX11_ask_0 : decode cX11_ask 0 = .ok (.aload_n 0, 1) := dk_42 (dk_at dksX11_ask_0 0 rfl rfl)
theorem dX11_ask_1 : decode cX11_ask 1 = .ok (.getfield 340, 3) := dk_180 1 84 (dk_at dksX11_ask_0 1 rfl rfl)
theorem dX11_ask_4 : decode cX11_ask 4 = .ok (.ifCond .ne 12, 3) := dk_154 0 12 (dk_at dksX11_ask_0 4 rfl rfl)
theorem dX11_ask_7 : decode cX11_ask 7 = .ok (.aload_n 0, 1) := dk_42 (dk_at dksX11_ask_0 7 rfl rfl)
theorem dX11_ask_8 : decode cX11_ask 8 = .ok (.iconst 0, 1) := dk_3 (dk_at dksX11_ask_0 8 rfl rfl)
theorem dX11_ask_9 : decode cX11_ask 9 = .ok (.putfield 229, 3) := dk_181 0 229 (dk_at dksX11_ask_0 9 rfl rfl)
theorem dX11_ask_12 : decode cX11_ask 12 = .ok (.ldc2_w 737, 3) := dk_20 2 225 (dk_at dksX11_ask_0 12 rfl rfl)
theorem dX11_ask_15 : decode cX11_ask 15 = .ok (.lreturn, 1) := dk_173 (dk_at dksX11_ask_0 15 rfl rfl)
theorem dX11_ask_16 : decode cX11_ask 16 = .ok (.aload_n 0, 1) := dk_42 (dk_at dksX11_ask_0 16 rfl rfl)
theorem dX11_ask_17 : decode cX11_ask 17 = .ok (.aload_n 0, 1) := dk_42 (dk_at dksX11_ask_0 17 rfl rfl)
theorem dX11_ask_18 : decode cX11_ask 18 = .ok (.getfield 229, 3) := dk_180 0 229 (dk_at dksX11_ask_0 18 rfl rfl)
theorem dX11_ask_21 : decode cX11_ask 21 = .ok (.putfield 241, 3) := dk_181 0 241 (dk_at dksX11_ask_0 21 rfl rfl)
theorem dX11_ask_24 : decode cX11_ask 24 = .ok (.aload_n 0, 1) := dk_42 (dk_at dksX11_ask_1 0 rfl rfl)
theorem dX11_ask_25 : decode cX11_ask 25 = .ok (.iconst 0, 1) := dk_3 (dk_at dksX11_ask_1 1 rfl rfl)
theorem dX11_ask_26 : decode cX11_ask 26 = .ok (.putfield 229, 3) := dk_181 0 229 (dk_at dksX11_ask_1 2 rfl rfl)
theorem dX11_ask_29 : decode cX11_ask 29 = .ok (.aload_n 0, 1) := dk_42 (dk_at dksX11_ask_1 5 rfl rfl)
theorem dX11_ask_30 : decode cX11_ask 30 = .ok (.iconst 0, 1) := dk_3 (dk_at dksX11_ask_1 6 rfl rfl)
theorem dX11_ask_31 : decode cX11_ask 31 = .ok (.putfield 238, 3) := dk_181 0 238 (dk_at dksX11_ask_1 7 rfl rfl)
theorem dX11_ask_34 : decode cX11_ask 34 = .ok (.aload_n 0, 1) := dk_42 (dk_at dksX11_ask_1 10 rfl rfl)
theorem dX11_ask_35 : decode cX11_ask 35 = .ok (.iconst (-1), 1) := dk_2 (dk_at dksX11_ask_1 11 rfl rfl)
theorem dX11_ask_36 : decode cX11_ask 36 = .ok (.putfield 252, 3) := dk_181 0 252 (dk_at dksX11_ask_1 12 rfl rfl)
theorem dX11_ask_39 : decode cX11_ask 39 = .ok (.aload_n 0, 1) := dk_42 (dk_at dksX11_ask_1 15 rfl rfl)
theorem dX11_ask_40 : decode cX11_ask 40 = .ok (.iconst 0, 1) := dk_3 (dk_at dksX11_ask_1 16 rfl rfl)
theorem dX11_ask_41 : decode cX11_ask 41 = .ok (.putfield 232, 3) := dk_181 0 232 (dk_at dksX11_ask_1 17 rfl rfl)
theorem dX11_ask_44 : decode cX11_ask 44 = .ok (.aload_n 0, 1) := dk_42 (dk_at dksX11_ask_1 20 rfl rfl)
theorem dX11_ask_45 : decode cX11_ask 45 = .ok (.iconst (-1), 1) := dk_2 (dk_at dksX11_ask_1 21 rfl rfl)
theorem dX11_ask_46 : decode cX11_ask 46 = .ok (.putfield 235, 3) := dk_181 0 235 (dk_at dksX11_ask_2 0 rfl rfl)
theorem dX11_ask_49 : decode cX11_ask 49 = .ok (.aload_n 0, 1) := dk_42 (dk_at dksX11_ask_2 3 rfl rfl)
theorem dX11_ask_50 : decode cX11_ask 50 = .ok (.iconst 2, 1) := dk_5 (dk_at dksX11_ask_2 4 rfl rfl)
theorem dX11_ask_51 : decode cX11_ask 51 = .ok (.putfield 279, 3) := dk_181 1 23 (dk_at dksX11_ask_2 5 rfl rfl)
theorem dX11_ask_54 : decode cX11_ask 54 = .ok (.aload_n 0, 1) := dk_42 (dk_at dksX11_ask_2 8 rfl rfl)
theorem dX11_ask_55 : decode cX11_ask 55 = .ok (.iconst 0, 1) := dk_3 (dk_at dksX11_ask_2 9 rfl rfl)
theorem dX11_ask_56 : decode cX11_ask 56 = .ok (.putfield 294, 3) := dk_181 1 38 (dk_at dksX11_ask_2 10 rfl rfl)
theorem dX11_ask_59 : decode cX11_ask 59 = .ok (.aload_n 0, 1) := dk_42 (dk_at dksX11_ask_2 13 rfl rfl)
theorem dX11_ask_60 : decode cX11_ask 60 = .ok (.iconst 0, 1) := dk_3 (dk_at dksX11_ask_2 14 rfl rfl)
theorem dX11_ask_61 : decode cX11_ask 61 = .ok (.putfield 297, 3) := dk_181 1 41 (dk_at dksX11_ask_2 15 rfl rfl)
theorem dX11_ask_64 : decode cX11_ask 64 = .ok (.aload_n 0, 1) := dk_42 (dk_at dksX11_ask_2 18 rfl rfl)
theorem dX11_ask_65 : decode cX11_ask 65 = .ok (.iconst 0, 1) := dk_3 (dk_at dksX11_ask_2 19 rfl rfl)
theorem dX11_ask_66 : decode cX11_ask 66 = .ok (.putfield 300, 3) := dk_181 1 44 (dk_at dksX11_ask_2 20 rfl rfl)
theorem dX11_ask_69 : decode cX11_ask 69 = .ok (.aload_n 0, 1) := dk_42 (dk_at dksX11_ask_2 23 rfl rfl)
theorem dX11_ask_70 : decode cX11_ask 70 = .ok (.iconst 0, 1) := dk_3 (dk_at dksX11_ask_3 0 rfl rfl)
theorem dX11_ask_71 : decode cX11_ask 71 = .ok (.putfield 303, 3) := dk_181 1 47 (dk_at dksX11_ask_3 1 rfl rfl)
theorem dX11_ask_74 : decode cX11_ask 74 = .ok (.aload_n 0, 1) := dk_42 (dk_at dksX11_ask_3 4 rfl rfl)
theorem dX11_ask_75 : decode cX11_ask 75 = .ok (.invokevirtual 739, 3) := dk_182 2 227 (dk_at dksX11_ask_3 5 rfl rfl)
theorem dX11_ask_78 : decode cX11_ask 78 = .ok (.istore_n 1, 1) := dk_60 (dk_at dksX11_ask_3 8 rfl rfl)
theorem dX11_ask_79 : decode cX11_ask 79 = .ok (.aload_n 0, 1) := dk_42 (dk_at dksX11_ask_3 9 rfl rfl)
theorem dX11_ask_80 : decode cX11_ask 80 = .ok (.getfield 232, 3) := dk_180 0 232 (dk_at dksX11_ask_3 10 rfl rfl)
theorem dX11_ask_83 : decode cX11_ask 83 = .ok (.ifCond .ne 15, 3) := dk_154 0 15 (dk_at dksX11_ask_3 13 rfl rfl)
theorem dX11_ask_86 : decode cX11_ask 86 = .ok (.iload_n 1, 1) := dk_27 (dk_at dksX11_ask_3 16 rfl rfl)
theorem dX11_ask_87 : decode cX11_ask 87 = .ok (.iconst 3, 1) := dk_6 (dk_at dksX11_ask_3 17 rfl rfl)
theorem dX11_ask_88 : decode cX11_ask 88 = .ok (.if_icmp .ge 10, 3) := dk_162 0 10 (dk_at dksX11_ask_3 18 rfl rfl)
theorem dX11_ask_91 : decode cX11_ask 91 = .ok (.aload_n 0, 1) := dk_42 (dk_at dksX11_ask_3 21 rfl rfl)
theorem dX11_ask_92 : decode cX11_ask 92 = .ok (.invokevirtual 306, 3) := dk_182 1 50 (dk_at dksX11_ask_4 0 rfl rfl)
theorem dX11_ask_95 : decode cX11_ask 95 = .ok (.goto 14, 3) := dk_167 0 14 (dk_at dksX11_ask_4 3 rfl rfl)
theorem dX11_ask_98 : decode cX11_ask 98 = .ok (.aload_n 0, 1) := dk_42 (dk_at dksX11_ask_4 6 rfl rfl)
theorem dX11_ask_99 : decode cX11_ask 99 = .ok (.getfield 232, 3) := dk_180 0 232 (dk_at dksX11_ask_4 7 rfl rfl)
theorem dX11_ask_102 : decode cX11_ask 102 = .ok (.ifCond .ne 7, 3) := dk_154 0 7 (dk_at dksX11_ask_4 10 rfl rfl)
theorem dX11_ask_105 : decode cX11_ask 105 = .ok (.aload_n 0, 1) := dk_42 (dk_at dksX11_ask_4 13 rfl rfl)
theorem dX11_ask_106 : decode cX11_ask 106 = .ok (.invokevirtual 309, 3) := dk_182 1 53 (dk_at dksX11_ask_4 14 rfl rfl)
theorem dX11_ask_109 : decode cX11_ask 109 = .ok (.aload_n 0, 1) := dk_42 (dk_at dksX11_ask_4 17 rfl rfl)
theorem dX11_ask_110 : decode cX11_ask 110 = .ok (.getfield 232, 3) := dk_180 0 232 (dk_at dksX11_ask_4 18 rfl rfl)
theorem dX11_ask_113 : decode cX11_ask 113 = .ok (.ifCond .ne 20, 3) := dk_154 0 20 (dk_at dksX11_ask_4 21 rfl rfl)
theorem dX11_ask_116 : decode cX11_ask 116 = .ok (.aload_n 0, 1) := dk_42 (dk_at dksX11_ask_5 0 rfl rfl)
theorem dX11_ask_117 : decode cX11_ask 117 = .ok (.invokevirtual 244, 3) := dk_182 0 244 (dk_at dksX11_ask_5 1 rfl rfl)
theorem dX11_ask_120 : decode cX11_ask 120 = .ok (.iconst (-1), 1) := dk_2 (dk_at dksX11_ask_5 4 rfl rfl)
theorem dX11_ask_121 : decode cX11_ask 121 = .ok (.if_icmp .eq 12, 3) := dk_159 0 12 (dk_at dksX11_ask_5 5 rfl rfl)
theorem dX11_ask_124 : decode cX11_ask 124 = .ok (.aload_n 0, 1) := dk_42 (dk_at dksX11_ask_5 8 rfl rfl)
theorem dX11_ask_125 : decode cX11_ask 125 = .ok (.iconst 1, 1) := dk_4 (dk_at dksX11_ask_5 9 rfl rfl)
theorem dX11_ask_126 : decode cX11_ask 126 = .ok (.aload_n 0, 1) := dk_42 (dk_at dksX11_ask_5 10 rfl rfl)
theorem dX11_ask_127 : decode cX11_ask 127 = .ok (.getfield 238, 3) := dk_180 0 238 (dk_at dksX11_ask_5 11 rfl rfl)
theorem dX11_ask_130 : decode cX11_ask 130 = .ok (.invokevirtual 262, 3) := dk_182 1 6 (dk_at dksX11_ask_5 14 rfl rfl)
theorem dX11_ask_133 : decode cX11_ask 133 = .ok (.aload_n 0, 1) := dk_42 (dk_at dksX11_ask_5 17 rfl rfl)
theorem dX11_ask_134 : decode cX11_ask 134 = .ok (.aload_n 0, 1) := dk_42 (dk_at dksX11_ask_5 18 rfl rfl)
theorem dX11_ask_135 : decode cX11_ask 135 = .ok (.getfield 232, 3) := dk_180 0 232 (dk_at dksX11_ask_5 19 rfl rfl)
theorem dX11_ask_138 : decode cX11_ask 138 = .ok (.putfield 330, 3) := dk_181 1 74 (dk_at dksX11_ask_6 0 rfl rfl)
theorem dX11_ask_141 : decode cX11_ask 141 = .ok (.aload_n 0, 1) := dk_42 (dk_at dksX11_ask_6 3 rfl rfl)
theorem dX11_ask_142 : decode cX11_ask 142 = .ok (.aload_n 0, 1) := dk_42 (dk_at dksX11_ask_6 4 rfl rfl)
theorem dX11_ask_143 : decode cX11_ask 143 = .ok (.getfield 235, 3) := dk_180 0 235 (dk_at dksX11_ask_6 5 rfl rfl)
theorem dX11_ask_146 : decode cX11_ask 146 = .ok (.putfield 13, 3) := dk_181 0 13 (dk_at dksX11_ask_6 8 rfl rfl)
theorem dX11_ask_149 : decode cX11_ask 149 = .ok (.aload_n 0, 1) := dk_42 (dk_at dksX11_ask_6 11 rfl rfl)
theorem dX11_ask_150 : decode cX11_ask 150 = .ok (.getfield 232, 3) := dk_180 0 232 (dk_at dksX11_ask_6 12 rfl rfl)
theorem dX11_ask_153 : decode cX11_ask 153 = .ok (.ifCond .eq 7, 3) := dk_153 0 7 (dk_at dksX11_ask_6 15 rfl rfl)
theorem dX11_ask_156 : decode cX11_ask 156 = .ok (.ldc2_w 737, 3) := dk_20 2 225 (dk_at dksX11_ask_6 18 rfl rfl)
theorem dX11_ask_159 : decode cX11_ask 159 = .ok (.lreturn, 1) := dk_173 (dk_at dksX11_ask_6 21 rfl rfl)
theorem dX11_ask_160 : decode cX11_ask 160 = .ok (.aload_n 0, 1) := dk_42 (dk_at dksX11_ask_6 22 rfl rfl)
theorem dX11_ask_161 : decode cX11_ask 161 = .ok (.iload_n 1, 1) := dk_27 (dk_at dksX11_ask_6 23 rfl rfl)
theorem dX11_ask_162 : decode cX11_ask 162 = .ok (.iconst 2, 1) := dk_5 (dk_at dksX11_ask_7 0 rfl rfl)
theorem dX11_ask_163 : decode cX11_ask 163 = .ok (.if_icmp .ge 9, 3) := dk_162 0 9 (dk_at dksX11_ask_7 1 rfl rfl)
theorem dX11_ask_166 : decode cX11_ask 166 = .ok (.ldc2_w 732, 3) := dk_20 2 220 (dk_at dksX11_ask_7 4 rfl rfl)
theorem dX11_ask_169 : decode cX11_ask 169 = .ok (.goto 4, 3) := dk_167 0 4 (dk_at dksX11_ask_7 7 rfl rfl)
theorem dX11_ask_172 : decode cX11_ask 172 = .ok (.lconst 0, 1) := dk_9 (dk_at dksX11_ask_7 10 rfl rfl)
theorem dX11_ask_173 : decode cX11_ask 173 = .ok (.putfield 729, 3) := dk_181 2 217 (dk_at dksX11_ask_7 11 rfl rfl)
theorem dX11_ask_176 : decode cX11_ask 176 = .ok (.aload_n 0, 1) := dk_42 (dk_at dksX11_ask_7 14 rfl rfl)
theorem dX11_ask_177 : decode cX11_ask 177 = .ok (.iconst 1, 1) := dk_4 (dk_at dksX11_ask_7 15 rfl rfl)
theorem dX11_ask_178 : decode cX11_ask 178 = .ok (.putfield 734, 3) := dk_181 2 222 (dk_at dksX11_ask_7 16 rfl rfl)
theorem dX11_ask_181 : decode cX11_ask 181 = .ok (.iconst 0, 1) := dk_3 (dk_at dksX11_ask_7 19 rfl rfl)
theorem dX11_ask_182 : decode cX11_ask 182 = .ok (.istore_n 2, 1) := dk_61 (dk_at dksX11_ask_7 20 rfl rfl)
theorem dX11_ask_183 : decode cX11_ask 183 = .ok (.iload_n 2, 1) := dk_28 (dk_at dksX11_ask_7 21 rfl rfl)
theorem dX11_ask_184 : decode cX11_ask 184 = .ok (.aload_n 0, 1) := dk_42 (dk_at dksX11_ask_7 22 rfl rfl)
theorem dX11_ask_185 : decode cX11_ask 185 = .ok (.invokevirtual 360, 3) := dk_182 1 104 (dk_at dksX11_ask_8 0 rfl rfl)
theorem dX11_ask_188 : decode cX11_ask 188 = .ok (.if_icmp .ge 25, 3) := dk_162 0 25 (dk_at dksX11_ask_8 3 rfl rfl)
theorem dX11_ask_191 : decode cX11_ask 191 = .ok (.aload_n 0, 1) := dk_42 (dk_at dksX11_ask_8 6 rfl rfl)
theorem dX11_ask_192 : decode cX11_ask 192 = .ok (.iload_n 2, 1) := dk_28 (dk_at dksX11_ask_8 7 rfl rfl)
theorem dX11_ask_193 : decode cX11_ask 193 = .ok (.putfield 722, 3) := dk_181 2 210 (dk_at dksX11_ask_8 8 rfl rfl)
theorem dX11_ask_196 : decode cX11_ask 196 = .ok (.aload_n 0, 1) := dk_42 (dk_at dksX11_ask_8 11 rfl rfl)
theorem dX11_ask_197 : decode cX11_ask 197 = .ok (.iload_n 1, 1) := dk_27 (dk_at dksX11_ask_8 12 rfl rfl)
theorem dX11_ask_198 : decode cX11_ask 198 = .ok (.aload_n 0, 1) := dk_42 (dk_at dksX11_ask_8 13 rfl rfl)
theorem dX11_ask_199 : decode cX11_ask 199 = .ok (.iload_n 2, 1) := dk_28 (dk_at dksX11_ask_8 14 rfl rfl)
theorem dX11_ask_200 : decode cX11_ask 200 = .ok (.invokevirtual 742, 3) := dk_182 2 230 (dk_at dksX11_ask_8 15 rfl rfl)
theorem dX11_ask_203 : decode cX11_ask 203 = .ok (.iload_n 2, 1) := dk_28 (dk_at dksX11_ask_8 18 rfl rfl)
theorem dX11_ask_204 : decode cX11_ask 204 = .ok (.invokevirtual 745, 3) := dk_182 2 233 (dk_at dksX11_ask_8 19 rfl rfl)
theorem dX11_ask_207 : decode cX11_ask 207 = .ok (.iinc 2 1, 3) := dk_132 2 1 (dk_at dksX11_ask_9 0 rfl rfl)
theorem dX11_ask_210 : decode cX11_ask 210 = .ok (.goto (-27), 3) := dk_167 255 229 (dk_at dksX11_ask_9 3 rfl rfl)
theorem dX11_ask_213 : decode cX11_ask 213 = .ok (.aload_n 0, 1) := dk_42 (dk_at dksX11_ask_9 6 rfl rfl)
theorem dX11_ask_214 : decode cX11_ask 214 = .ok (.getfield 729, 3) := dk_180 2 217 (dk_at dksX11_ask_9 7 rfl rfl)
theorem dX11_ask_217 : decode cX11_ask 217 = .ok (.lreturn, 1) := dk_173 (dk_at dksX11_ask_9 10 rfl rfl)
abbrev cX11_qKind : ByteArray := prog_26_method_149_code
def yX11_qKind : MethodName := ⟨RX11, "qKind", "()I"⟩
def dkwX11_qKind_3 : List UInt8 := [7, 167, 0, 4, 8, 60, 27, 8, 160, 0, 11, 42, 42, 180, 0, 165, 182, 1, 26, 27, 172]
abbrev dktX11_qKind_3 : List UInt8 := dkwX11_qKind_3 ++ []
def dkwX11_qKind_2 : List UInt8 := [180, 0, 159, 182, 1, 3, 153, 0, 7, 6, 167, 0, 19, 42, 42, 180, 0, 162, 182, 1, 3, 153, 0, 7]
abbrev dktX11_qKind_2 : List UInt8 := dkwX11_qKind_2 ++ dktX11_qKind_3
def dkwX11_qKind_1 : List UInt8 := [153, 0, 7, 4, 167, 0, 49, 42, 42, 180, 0, 156, 182, 1, 3, 153, 0, 7, 5, 167, 0, 34, 42, 42]
abbrev dktX11_qKind_1 : List UInt8 := dkwX11_qKind_1 ++ dktX11_qKind_2
def dkwX11_qKind_0 : List UInt8 := [42, 42, 180, 0, 150, 182, 1, 3, 153, 0, 7, 3, 167, 0, 64, 42, 42, 180, 0, 153, 182, 1, 3]
abbrev dktX11_qKind_0 : List UInt8 := dkwX11_qKind_0 ++ dktX11_qKind_1
theorem dksX11_qKind_0 : cX11_qKind.data.toList.drop 0 = dktX11_qKind_0 := by decide +kernel
theorem dksX11_qKind_1 : cX11_qKind.data.toList.drop 23 = dktX11_qKind_1 := dk_seg dksX11_qKind_0 23 rfl rfl
theorem dksX11_qKind_2 : cX11_qKind.data.toList.drop 47 = dktX11_qKind_2 := dk_seg dksX11_qKind_1 24 rfl rfl
theorem dksX11_qKind_3 : cX11_qKind.data.toList.drop 71 = dktX11_qKind_3 := dk_seg dksX11_qKind_2 24 rfl rfl
theorem dX11_qKind_0 : decode cX11_qKind 0 = .ok (.aload_n 0, 1) := dk_42 (dk_at dksX11_qKind_0 0 rfl rfl)
theorem dX11_qKind_1 : decode cX11_qKind 1 = .ok (.aload_n 0, 1) := dk_42 (dk_at dksX11_qKind_0 1 rfl rfl)
theorem dX11_qKind_2 : decode cX11_qKind 2 = .ok (.getfield 150, 3) := dk_180 0 150 (dk_at dksX11_qKind_0 2 rfl rfl)
theorem dX11_qKind_5 : decode cX11_qKind 5 = .ok (.invokevirtual 259, 3) := dk_182 1 3 (dk_at dksX11_qKind_0 5 rfl rfl)
theorem dX11_qKind_8 : decode cX11_qKind 8 = .ok (.ifCond .eq 7, 3) := dk_153 0 7 (dk_at dksX11_qKind_0 8 rfl rfl)
theorem dX11_qKind_11 : decode cX11_qKind 11 = .ok (.iconst 0, 1) := dk_3 (dk_at dksX11_qKind_0 11 rfl rfl)
theorem dX11_qKind_12 : decode cX11_qKind 12 = .ok (.goto 64, 3) := dk_167 0 64 (dk_at dksX11_qKind_0 12 rfl rfl)
theorem dX11_qKind_15 : decode cX11_qKind 15 = .ok (.aload_n 0, 1) := dk_42 (dk_at dksX11_qKind_0 15 rfl rfl)
theorem dX11_qKind_16 : decode cX11_qKind 16 = .ok (.aload_n 0, 1) := dk_42 (dk_at dksX11_qKind_0 16 rfl rfl)
theorem dX11_qKind_17 : decode cX11_qKind 17 = .ok (.getfield 153, 3) := dk_180 0 153 (dk_at dksX11_qKind_0 17 rfl rfl)
theorem dX11_qKind_20 : decode cX11_qKind 20 = .ok (.invokevirtual 259, 3) := dk_182 1 3 (dk_at dksX11_qKind_0 20 rfl rfl)
theorem dX11_qKind_23 : decode cX11_qKind 23 = .ok (.ifCond .eq 7, 3) := dk_153 0 7 (dk_at dksX11_qKind_1 0 rfl rfl)
theorem dX11_qKind_26 : decode cX11_qKind 26 = .ok (.iconst 1, 1) := dk_4 (dk_at dksX11_qKind_1 3 rfl rfl)
theorem dX11_qKind_27 : decode cX11_qKind 27 = .ok (.goto 49, 3) := dk_167 0 49 (dk_at dksX11_qKind_1 4 rfl rfl)
theorem dX11_qKind_30 : decode cX11_qKind 30 = .ok (.aload_n 0, 1) := dk_42 (dk_at dksX11_qKind_1 7 rfl rfl)
theorem dX11_qKind_31 : decode cX11_qKind 31 = .ok (.aload_n 0, 1) := dk_42 (dk_at dksX11_qKind_1 8 rfl rfl)
theorem dX11_qKind_32 : decode cX11_qKind 32 = .ok (.getfield 156, 3) := dk_180 0 156 (dk_at dksX11_qKind_1 9 rfl rfl)
theorem dX11_qKind_35 : decode cX11_qKind 35 = .ok (.invokevirtual 259, 3) := dk_182 1 3 (dk_at dksX11_qKind_1 12 rfl rfl)
theorem dX11_qKind_38 : decode cX11_qKind 38 = .ok (.ifCond .eq 7, 3) := dk_153 0 7 (dk_at dksX11_qKind_1 15 rfl rfl)
theorem dX11_qKind_41 : decode cX11_qKind 41 = .ok (.iconst 2, 1) := dk_5 (dk_at dksX11_qKind_1 18 rfl rfl)
theorem dX11_qKind_42 : decode cX11_qKind 42 = .ok (.goto 34, 3) := dk_167 0 34 (dk_at dksX11_qKind_1 19 rfl rfl)
theorem dX11_qKind_45 : decode cX11_qKind 45 = .ok (.aload_n 0, 1) := dk_42 (dk_at dksX11_qKind_1 22 rfl rfl)
theorem dX11_qKind_46 : decode cX11_qKind 46 = .ok (.aload_n 0, 1) := dk_42 (dk_at dksX11_qKind_1 23 rfl rfl)
theorem dX11_qKind_47 : decode cX11_qKind 47 = .ok (.getfield 159, 3) := dk_180 0 159 (dk_at dksX11_qKind_2 0 rfl rfl)
theorem dX11_qKind_50 : decode cX11_qKind 50 = .ok (.invokevirtual 259, 3) := dk_182 1 3 (dk_at dksX11_qKind_2 3 rfl rfl)
theorem dX11_qKind_53 : decode cX11_qKind 53 = .ok (.ifCond .eq 7, 3) := dk_153 0 7 (dk_at dksX11_qKind_2 6 rfl rfl)
theorem dX11_qKind_56 : decode cX11_qKind 56 = .ok (.iconst 3, 1) := dk_6 (dk_at dksX11_qKind_2 9 rfl rfl)
theorem dX11_qKind_57 : decode cX11_qKind 57 = .ok (.goto 19, 3) := dk_167 0 19 (dk_at dksX11_qKind_2 10 rfl rfl)
theorem dX11_qKind_60 : decode cX11_qKind 60 = .ok (.aload_n 0, 1) := dk_42 (dk_at dksX11_qKind_2 13 rfl rfl)
theorem dX11_qKind_61 : decode cX11_qKind 61 = .ok (.aload_n 0, 1) := dk_42 (dk_at dksX11_qKind_2 14 rfl rfl)
theorem dX11_qKind_62 : decode cX11_qKind 62 = .ok (.getfield 162, 3) := dk_180 0 162 (dk_at dksX11_qKind_2 15 rfl rfl)
theorem dX11_qKind_65 : decode cX11_qKind 65 = .ok (.invokevirtual 259, 3) := dk_182 1 3 (dk_at dksX11_qKind_2 18 rfl rfl)
theorem dX11_qKind_68 : decode cX11_qKind 68 = .ok (.ifCond .eq 7, 3) := dk_153 0 7 (dk_at dksX11_qKind_2 21 rfl rfl)
theorem dX11_qKind_71 : decode cX11_qKind 71 = .ok (.iconst 4, 1) := dk_7 (dk_at dksX11_qKind_3 0 rfl rfl)
theorem dX11_qKind_72 : decode cX11_qKind 72 = .ok (.goto 4, 3) := dk_167 0 4 (dk_at dksX11_qKind_3 1 rfl rfl)
theorem dX11_qKind_75 : decode cX11_qKind 75 = .ok (.iconst 5, 1) := dk_8 (dk_at dksX11_qKind_3 4 rfl rfl)
theorem dX11_qKind_76 : decode cX11_qKind 76 = .ok (.istore_n 1, 1) := dk_60 (dk_at dksX11_qKind_3 5 rfl rfl)
theorem dX11_qKind_77 : decode cX11_qKind 77 = .ok (.iload_n 1, 1) := dk_27 (dk_at dksX11_qKind_3 6 rfl rfl)
theorem dX11_qKind_78 : decode cX11_qKind 78 = .ok (.iconst 5, 1) := dk_8 (dk_at dksX11_qKind_3 7 rfl rfl)
theorem dX11_qKind_79 : decode cX11_qKind 79 = .ok (.if_icmp .ne 11, 3) := dk_160 0 11 (dk_at dksX11_qKind_3 8 rfl rfl)
theorem dX11_qKind_82 : decode cX11_qKind 82 = .ok (.aload_n 0, 1) := dk_42 (dk_at dksX11_qKind_3 11 rfl rfl)
theorem dX11_qKind_83 : decode cX11_qKind 83 = .ok (.aload_n 0, 1) := dk_42 (dk_at dksX11_qKind_3 12 rfl rfl)
theorem dX11_qKind_84 : decode cX11_qKind 84 = .ok (.getfield 165, 3) := dk_180 0 165 (dk_at dksX11_qKind_3 13 rfl rfl)
theorem dX11_qKind_87 : decode cX11_qKind 87 = .ok (.invokevirtual 282, 3) := dk_182 1 26 (dk_at dksX11_qKind_3 16 rfl rfl)
theorem dX11_qKind_90 : decode cX11_qKind 90 = .ok (.iload_n 1, 1) := dk_27 (dk_at dksX11_qKind_3 19 rfl rfl)
theorem dX11_qKind_91 : decode cX11_qKind 91 = .ok (.ireturn, 1) := dk_172 (dk_at dksX11_qKind_3 20 rfl rfl)
abbrev cX11_qTold : ByteArray := prog_26_method_148_code
def yX11_qTold : MethodName := ⟨RX11, "qTold", "(I)J"⟩
def dkwX11_qTold_7 : List UInt8 := [132, 2, 1, 167, 255, 98, 42, 180, 0, 222, 3, 47, 173]
abbrev dktX11_qTold_7 : List UInt8 := dkwX11_qTold_7 ++ []
def dkwX11_qTold_6 : List UInt8 := [10, 42, 180, 0, 222, 42, 180, 1, 110, 4, 100, 47, 101, 80, 167, 0, 8, 42, 29, 182, 1, 121]
abbrev dktX11_qTold_6 : List UInt8 := dkwX11_qTold_6 ++ dktX11_qTold_7
def dkwX11_qTold_5 : List UInt8 := [42, 10, 182, 1, 113, 167, 0, 41, 29, 16, 12, 160, 0, 30, 42, 180, 0, 222, 42, 180, 1, 110, 4, 100]
abbrev dktX11_qTold_5 : List UInt8 := dkwX11_qTold_5 ++ dktX11_qTold_6
def dkwX11_qTold_4 : List UInt8 := [42, 29, 16, 40, 100, 27, 182, 1, 117, 184, 2, 202, 182, 1, 113, 167, 0, 55, 29, 16, 13, 160, 0, 11]
abbrev dktX11_qTold_4 : List UInt8 := dkwX11_qTold_4 ++ dktX11_qTold_5
def dkwX11_qTold_3 : List UInt8 := [180, 1, 110, 4, 100, 47, 27, 182, 2, 213, 184, 2, 202, 80, 167, 0, 80, 29, 16, 40, 161, 0, 22, 42]
abbrev dktX11_qTold_3 : List UInt8 := dkwX11_qTold_3 ++ dktX11_qTold_4
def dkwX11_qTold_2 : List UInt8 := [161, 0, 40, 42, 180, 0, 222, 42, 180, 1, 110, 4, 100, 42, 29, 16, 60, 100, 42, 180, 0, 222, 42]
abbrev dktX11_qTold_2 : List UInt8 := dkwX11_qTold_2 ++ dktX11_qTold_3
def dkwX11_qTold_1 : List UInt8 := [17, 3, 232, 161, 0, 16, 42, 29, 17, 3, 232, 100, 133, 182, 1, 113, 167, 0, 123, 29, 16, 60]
abbrev dktX11_qTold_1 : List UInt8 := dkwX11_qTold_1 ++ dktX11_qTold_2
def dkwX11_qTold_0 : List UInt8 := [42, 3, 181, 1, 110, 3, 61, 28, 42, 180, 1, 38, 162, 0, 156, 42, 180, 0, 216, 28, 46, 62, 29]
abbrev dktX11_qTold_0 : List UInt8 := dkwX11_qTold_0 ++ dktX11_qTold_1
theorem dksX11_qTold_0 : cX11_qTold.data.toList.drop 0 = dktX11_qTold_0 := by decide +kernel
theorem dksX11_qTold_1 : cX11_qTold.data.toList.drop 23 = dktX11_qTold_1 := dk_seg dksX11_qTold_0 23 rfl rfl
theorem dksX11_qTold_2 : cX11_qTold.data.toList.drop 45 = dktX11_qTold_2 := dk_seg dksX11_qTold_1 22 rfl rfl
theorem dksX11_qTold_3 : cX11_qTold.data.toList.drop 68 = dktX11_qTold_3 := dk_seg dksX11_qTold_2 23 rfl rfl
theorem dksX11_qTold_4 : cX11_qTold.data.toList.drop 92 = dktX11_qTold_4 := dk_seg dksX11_qTold_3 24 rfl rfl
theorem dksX11_qTold_5 : cX11_qTold.data.toList.drop 116 = dktX11_qTold_5 := dk_seg dksX11_qTold_4 24 rfl rfl
theorem dksX11_qTold_6 : cX11_qTold.data.toList.drop 140 = dktX11_qTold_6 := dk_seg dksX11_qTold_5 24 rfl rfl
theorem dksX11_qTold_7 : cX11_qTold.data.toList.drop 162 = dktX11_qTold_7 := dk_seg dksX11_qTold_6 22 rfl rfl
theorem dX11_qTold_0 : decode cX11_qTold 0 = .ok (.aload_n 0, 1) := dk_42 (dk_at dksX11_qTold_0 0 rfl rfl)
theorem dX11_qTold_1 : decode cX11_qTold 1 = .ok (.iconst 0, 1) := dk_3 (dk_at dksX11_qTold_0 1 rfl rfl)
theorem dX11_qTold_2 : decode cX11_qTold 2 = .ok (.putfield 366, 3) := dk_181 1 110 (dk_at dksX11_qTold_0 2 rfl rfl)
theorem dX11_qTold_5 : decode cX11_qTold 5 = .ok (.iconst 0, 1) := dk_3 (dk_at dksX11_qTold_0 5 rfl rfl)
theorem dX11_qTold_6 : decode cX11_qTold 6 = .ok (.istore_n 2, 1) := dk_61 (dk_at dksX11_qTold_0 6 rfl rfl)
theorem dX11_qTold_7 : decode cX11_qTold 7 = .ok (.iload_n 2, 1) := dk_28 (dk_at dksX11_qTold_0 7 rfl rfl)
theorem dX11_qTold_8 : decode cX11_qTold 8 = .ok (.aload_n 0, 1) := dk_42 (dk_at dksX11_qTold_0 8 rfl rfl)
theorem dX11_qTold_9 : decode cX11_qTold 9 = .ok (.getfield 294, 3) := dk_180 1 38 (dk_at dksX11_qTold_0 9 rfl rfl)
theorem dX11_qTold_12 : decode cX11_qTold 12 = .ok (.if_icmp .ge 156, 3) := dk_162 0 156 (dk_at dksX11_qTold_0 12 rfl rfl)
theorem dX11_qTold_15 : decode cX11_qTold 15 = .ok (.aload_n 0, 1) := dk_42 (dk_at dksX11_qTold_0 15 rfl rfl)
theorem dX11_qTold_16 : decode cX11_qTold 16 = .ok (.getfield 216, 3) := dk_180 0 216 (dk_at dksX11_qTold_0 16 rfl rfl)
theorem dX11_qTold_19 : decode cX11_qTold 19 = .ok (.iload_n 2, 1) := dk_28 (dk_at dksX11_qTold_0 19 rfl rfl)
theorem dX11_qTold_20 : decode cX11_qTold 20 = .ok (.iaload, 1) := dk_46 (dk_at dksX11_qTold_0 20 rfl rfl)
theorem dX11_qTold_21 : decode cX11_qTold 21 = .ok (.istore_n 3, 1) := dk_62 (dk_at dksX11_qTold_0 21 rfl rfl)
theorem dX11_qTold_22 : decode cX11_qTold 22 = .ok (.iload_n 3, 1) := dk_29 (dk_at dksX11_qTold_0 22 rfl rfl)
theorem dX11_qTold_23 : decode cX11_qTold 23 = .ok (.sipush 1000, 3) := dk_17 3 232 (dk_at dksX11_qTold_1 0 rfl rfl)
theorem dX11_qTold_26 : decode cX11_qTold 26 = .ok (.if_icmp .lt 16, 3) := dk_161 0 16 (dk_at dksX11_qTold_1 3 rfl rfl)
theorem dX11_qTold_29 : decode cX11_qTold 29 = .ok (.aload_n 0, 1) := dk_42 (dk_at dksX11_qTold_1 6 rfl rfl)
theorem dX11_qTold_30 : decode cX11_qTold 30 = .ok (.iload_n 3, 1) := dk_29 (dk_at dksX11_qTold_1 7 rfl rfl)
theorem dX11_qTold_31 : decode cX11_qTold 31 = .ok (.sipush 1000, 3) := dk_17 3 232 (dk_at dksX11_qTold_1 8 rfl rfl)
theorem dX11_qTold_34 : decode cX11_qTold 34 = .ok (.isub, 1) := dk_100 (dk_at dksX11_qTold_1 11 rfl rfl)
theorem dX11_qTold_35 : decode cX11_qTold 35 = .ok (.i2l, 1) := dk_133 (dk_at dksX11_qTold_1 12 rfl rfl)
theorem dX11_qTold_36 : decode cX11_qTold 36 = .ok (.invokevirtual 369, 3) := dk_182 1 113 (dk_at dksX11_qTold_1 13 rfl rfl)
theorem dX11_qTold_39 : decode cX11_qTold 39 = .ok (.goto 123, 3) := dk_167 0 123 (dk_at dksX11_qTold_1 16 rfl rfl)
theorem dX11_qTold_42 : decode cX11_qTold 42 = .ok (.iload_n 3, 1) := dk_29 (dk_at dksX11_qTold_1 19 rfl rfl)
theorem dX11_qTold_43 : decode cX11_qTold 43 = .ok (.bipush 60, 2) := dk_16 60 (dk_at dksX11_qTold_1 20 rfl rfl)
theorem dX11_qTold_45 : decode cX11_qTold 45 = .ok (.if_icmp .lt 40, 3) := dk_161 0 40 (dk_at dksX11_qTold_2 0 rfl rfl)
theorem dX11_qTold_48 : decode cX11_qTold 48 = .ok (.aload_n 0, 1) := dk_42 (dk_at dksX11_qTold_2 3 rfl rfl)
theorem dX11_qTold_49 : decode cX11_qTold 49 = .ok (.getfield 222, 3) := dk_180 0 222 (dk_at dksX11_qTold_2 4 rfl rfl)
theorem dX11_qTold_52 : decode cX11_qTold 52 = .ok (.aload_n 0, 1) := dk_42 (dk_at dksX11_qTold_2 7 rfl rfl)
theorem dX11_qTold_53 : decode cX11_qTold 53 = .ok (.getfield 366, 3) := dk_180 1 110 (dk_at dksX11_qTold_2 8 rfl rfl)
theorem dX11_qTold_56 : decode cX11_qTold 56 = .ok (.iconst 1, 1) := dk_4 (dk_at dksX11_qTold_2 11 rfl rfl)
theorem dX11_qTold_57 : decode cX11_qTold 57 = .ok (.isub, 1) := dk_100 (dk_at dksX11_qTold_2 12 rfl rfl)
theorem dX11_qTold_58 : decode cX11_qTold 58 = .ok (.aload_n 0, 1) := dk_42 (dk_at dksX11_qTold_2 13 rfl rfl)
theorem dX11_qTold_59 : decode cX11_qTold 59 = .ok (.iload_n 3, 1) := dk_29 (dk_at dksX11_qTold_2 14 rfl rfl)
theorem dX11_qTold_60 : decode cX11_qTold 60 = .ok (.bipush 60, 2) := dk_16 60 (dk_at dksX11_qTold_2 15 rfl rfl)
theorem dX11_qTold_62 : decode cX11_qTold 62 = .ok (.isub, 1) := dk_100 (dk_at dksX11_qTold_2 17 rfl rfl)
theorem dX11_qTold_63 : decode cX11_qTold 63 = .ok (.aload_n 0, 1) := dk_42 (dk_at dksX11_qTold_2 18 rfl rfl)
theorem dX11_qTold_64 : decode cX11_qTold 64 = .ok (.getfield 222, 3) := dk_180 0 222 (dk_at dksX11_qTold_2 19 rfl rfl)
theorem dX11_qTold_67 : decode cX11_qTold 67 = .ok (.aload_n 0, 1) := dk_42 (dk_at dksX11_qTold_2 22 rfl rfl)
theorem dX11_qTold_68 : decode cX11_qTold 68 = .ok (.getfield 366, 3) := dk_180 1 110 (dk_at dksX11_qTold_3 0 rfl rfl)
theorem dX11_qTold_71 : decode cX11_qTold 71 = .ok (.iconst 1, 1) := dk_4 (dk_at dksX11_qTold_3 3 rfl rfl)
theorem dX11_qTold_72 : decode cX11_qTold 72 = .ok (.isub, 1) := dk_100 (dk_at dksX11_qTold_3 4 rfl rfl)
theorem dX11_qTold_73 : decode cX11_qTold 73 = .ok (.laload, 1) := dk_47 (dk_at dksX11_qTold_3 5 rfl rfl)
theorem dX11_qTold_74 : decode cX11_qTold 74 = .ok (.iload_n 1, 1) := dk_27 (dk_at dksX11_qTold_3 6 rfl rfl)
theorem dX11_qTold_75 : decode cX11_qTold 75 = .ok (.invokevirtual 725, 3) := dk_182 2 213 (dk_at dksX11_qTold_3 7 rfl rfl)
theorem dX11_qTold_78 : decode cX11_qTold 78 = .ok (.invokestatic 714, 3) := dk_184 2 202 (dk_at dksX11_qTold_3 10 rfl rfl)
theorem dX11_qTold_81 : decode cX11_qTold 81 = .ok (.lastore, 1) := dk_80 (dk_at dksX11_qTold_3 13 rfl rfl)
theorem dX11_qTold_82 : decode cX11_qTold 82 = .ok (.goto 80, 3) := dk_167 0 80 (dk_at dksX11_qTold_3 14 rfl rfl)
theorem dX11_qTold_85 : decode cX11_qTold 85 = .ok (.iload_n 3, 1) := dk_29 (dk_at dksX11_qTold_3 17 rfl rfl)
theorem dX11_qTold_86 : decode cX11_qTold 86 = .ok (.bipush 40, 2) := dk_16 40 (dk_at dksX11_qTold_3 18 rfl rfl)
theorem dX11_qTold_88 : decode cX11_qTold 88 = .ok (.if_icmp .lt 22, 3) := dk_161 0 22 (dk_at dksX11_qTold_3 20 rfl rfl)
theorem dX11_qTold_91 : decode cX11_qTold 91 = .ok (.aload_n 0, 1) := dk_42 (dk_at dksX11_qTold_3 23 rfl rfl)
theorem dX11_qTold_92 : decode cX11_qTold 92 = .ok (.aload_n 0, 1) := dk_42 (dk_at dksX11_qTold_4 0 rfl rfl)
theorem dX11_qTold_93 : decode cX11_qTold 93 = .ok (.iload_n 3, 1) := dk_29 (dk_at dksX11_qTold_4 1 rfl rfl)
theorem dX11_qTold_94 : decode cX11_qTold 94 = .ok (.bipush 40, 2) := dk_16 40 (dk_at dksX11_qTold_4 2 rfl rfl)
theorem dX11_qTold_96 : decode cX11_qTold 96 = .ok (.isub, 1) := dk_100 (dk_at dksX11_qTold_4 4 rfl rfl)
theorem dX11_qTold_97 : decode cX11_qTold 97 = .ok (.iload_n 1, 1) := dk_27 (dk_at dksX11_qTold_4 5 rfl rfl)
theorem dX11_qTold_98 : decode cX11_qTold 98 = .ok (.invokevirtual 373, 3) := dk_182 1 117 (dk_at dksX11_qTold_4 6 rfl rfl)
theorem dX11_qTold_101 : decode cX11_qTold 101 = .ok (.invokestatic 714, 3) := dk_184 2 202 (dk_at dksX11_qTold_4 9 rfl rfl)
theorem dX11_qTold_104 : decode cX11_qTold 104 = .ok (.invokevirtual 369, 3) := dk_182 1 113 (dk_at dksX11_qTold_4 12 rfl rfl)
theorem dX11_qTold_107 : decode cX11_qTold 107 = .ok (.goto 55, 3) := dk_167 0 55 (dk_at dksX11_qTold_4 15 rfl rfl)
theorem dX11_qTold_110 : decode cX11_qTold 110 = .ok (.iload_n 3, 1) := dk_29 (dk_at dksX11_qTold_4 18 rfl rfl)
theorem dX11_qTold_111 : decode cX11_qTold 111 = .ok (.bipush 13, 2) := dk_16 13 (dk_at dksX11_qTold_4 19 rfl rfl)
theorem dX11_qTold_113 : decode cX11_qTold 113 = .ok (.if_icmp .ne 11, 3) := dk_160 0 11 (dk_at dksX11_qTold_4 21 rfl rfl)
theorem dX11_qTold_116 : decode cX11_qTold 116 = .ok (.aload_n 0, 1) := dk_42 (dk_at dksX11_qTold_5 0 rfl rfl)
theorem dX11_qTold_117 : decode cX11_qTold 117 = .ok (.lconst 1, 1) := dk_10 (dk_at dksX11_qTold_5 1 rfl rfl)
theorem dX11_qTold_118 : decode cX11_qTold 118 = .ok (.invokevirtual 369, 3) := dk_182 1 113 (dk_at dksX11_qTold_5 2 rfl rfl)
theorem dX11_qTold_121 : decode cX11_qTold 121 = .ok (.goto 41, 3) := dk_167 0 41 (dk_at dksX11_qTold_5 5 rfl rfl)
theorem dX11_qTold_124 : decode cX11_qTold 124 = .ok (.iload_n 3, 1) := dk_29 (dk_at dksX11_qTold_5 8 rfl rfl)
theorem dX11_qTold_125 : decode cX11_qTold 125 = .ok (.bipush 12, 2) := dk_16 12 (dk_at dksX11_qTold_5 9 rfl rfl)
theorem dX11_qTold_127 : decode cX11_qTold 127 = .ok (.if_icmp .ne 30, 3) := dk_160 0 30 (dk_at dksX11_qTold_5 11 rfl rfl)
theorem dX11_qTold_130 : decode cX11_qTold 130 = .ok (.aload_n 0, 1) := dk_42 (dk_at dksX11_qTold_5 14 rfl rfl)
theorem dX11_qTold_131 : decode cX11_qTold 131 = .ok (.getfield 222, 3) := dk_180 0 222 (dk_at dksX11_qTold_5 15 rfl rfl)
theorem dX11_qTold_134 : decode cX11_qTold 134 = .ok (.aload_n 0, 1) := dk_42 (dk_at dksX11_qTold_5 18 rfl rfl)
theorem dX11_qTold_135 : decode cX11_qTold 135 = .ok (.getfield 366, 3) := dk_180 1 110 (dk_at dksX11_qTold_5 19 rfl rfl)
theorem dX11_qTold_138 : decode cX11_qTold 138 = .ok (.iconst 1, 1) := dk_4 (dk_at dksX11_qTold_5 22 rfl rfl)
theorem dX11_qTold_139 : decode cX11_qTold 139 = .ok (.isub, 1) := dk_100 (dk_at dksX11_qTold_5 23 rfl rfl)
theorem dX11_qTold_140 : decode cX11_qTold 140 = .ok (.lconst 1, 1) := dk_10 (dk_at dksX11_qTold_6 0 rfl rfl)
theorem dX11_qTold_141 : decode cX11_qTold 141 = .ok (.aload_n 0, 1) := dk_42 (dk_at dksX11_qTold_6 1 rfl rfl)
theorem dX11_qTold_142 : decode cX11_qTold 142 = .ok (.getfield 222, 3) := dk_180 0 222 (dk_at dksX11_qTold_6 2 rfl rfl)
theorem dX11_qTold_145 : decode cX11_qTold 145 = .ok (.aload_n 0, 1) := dk_42 (dk_at dksX11_qTold_6 5 rfl rfl)
theorem dX11_qTold_146 : decode cX11_qTold 146 = .ok (.getfield 366, 3) := dk_180 1 110 (dk_at dksX11_qTold_6 6 rfl rfl)
theorem dX11_qTold_149 : decode cX11_qTold 149 = .ok (.iconst 1, 1) := dk_4 (dk_at dksX11_qTold_6 9 rfl rfl)
theorem dX11_qTold_150 : decode cX11_qTold 150 = .ok (.isub, 1) := dk_100 (dk_at dksX11_qTold_6 10 rfl rfl)
theorem dX11_qTold_151 : decode cX11_qTold 151 = .ok (.laload, 1) := dk_47 (dk_at dksX11_qTold_6 11 rfl rfl)
theorem dX11_qTold_152 : decode cX11_qTold 152 = .ok (.lsub, 1) := dk_101 (dk_at dksX11_qTold_6 12 rfl rfl)
theorem dX11_qTold_153 : decode cX11_qTold 153 = .ok (.lastore, 1) := dk_80 (dk_at dksX11_qTold_6 13 rfl rfl)
theorem dX11_qTold_154 : decode cX11_qTold 154 = .ok (.goto 8, 3) := dk_167 0 8 (dk_at dksX11_qTold_6 14 rfl rfl)
theorem dX11_qTold_157 : decode cX11_qTold 157 = .ok (.aload_n 0, 1) := dk_42 (dk_at dksX11_qTold_6 17 rfl rfl)
theorem dX11_qTold_158 : decode cX11_qTold 158 = .ok (.iload_n 3, 1) := dk_29 (dk_at dksX11_qTold_6 18 rfl rfl)
theorem dX11_qTold_159 : decode cX11_qTold 159 = .ok (.invokevirtual 377, 3) := dk_182 1 121 (dk_at dksX11_qTold_6 19 rfl rfl)
theorem dX11_qTold_162 : decode cX11_qTold 162 = .ok (.iinc 2 1, 3) := dk_132 2 1 (dk_at dksX11_qTold_7 0 rfl rfl)
theorem dX11_qTold_165 : decode cX11_qTold 165 = .ok (.goto (-158), 3) := dk_167 255 98 (dk_at dksX11_qTold_7 3 rfl rfl)
theorem dX11_qTold_168 : decode cX11_qTold 168 = .ok (.aload_n 0, 1) := dk_42 (dk_at dksX11_qTold_7 6 rfl rfl)
theorem dX11_qTold_169 : decode cX11_qTold 169 = .ok (.getfield 222, 3) := dk_180 0 222 (dk_at dksX11_qTold_7 7 rfl rfl)
theorem dX11_qTold_172 : decode cX11_qTold 172 = .ok (.iconst 0, 1) := dk_3 (dk_at dksX11_qTold_7 10 rfl rfl)
theorem dX11_qTold_173 : decode cX11_qTold 173 = .ok (.laload, 1) := dk_47 (dk_at dksX11_qTold_7 11 rfl rfl)
theorem dX11_qTold_174 : decode cX11_qTold 174 = .ok (.lreturn, 1) := dk_173 (dk_at dksX11_qTold_7 12 rfl rfl)
abbrev cX11_qOf : ByteArray := prog_26_method_147_code
def yX11_qOf : MethodName := ⟨RX11, "qOf", "(IJI)J"⟩
def dkwX11_qOf_3 : List UInt8 := [2, 159, 0, 18, 42, 180, 0, 111, 17, 0, 144, 32, 136, 96, 46, 133, 167, 0, 4, 9, 173]
abbrev dktX11_qOf_3 : List UInt8 := dkwX11_qOf_3 ++ []
def dkwX11_qOf_2 : List UInt8 := [9, 173, 32, 9, 20, 2, 66, 184, 1, 19, 153, 0, 33, 42, 180, 0, 111, 17, 0, 144, 32, 136, 96, 46]
abbrev dktX11_qOf_2 : List UInt8 := dkwX11_qOf_2 ++ dktX11_qOf_3
def dkwX11_qOf_1 : List UInt8 := [182, 1, 146, 4, 100, 133, 184, 1, 19, 153, 0, 15, 42, 21, 4, 32, 136, 182, 1, 238, 133, 167, 0, 4]
abbrev dktX11_qOf_1 : List UInt8 := dkwX11_qOf_1 ++ dktX11_qOf_2
def dkwX11_qOf_0 : List UInt8 := [27, 171, 0, 0, 0, 0, 0, 48, 0, 0, 0, 1, 0, 0, 0, 0, 0, 0, 0, 19, 32, 9, 42]
abbrev dktX11_qOf_0 : List UInt8 := dkwX11_qOf_0 ++ dktX11_qOf_1
theorem dksX11_qOf_0 : cX11_qOf.data.toList.drop 0 = dktX11_qOf_0 := by decide +kernel
theorem dksX11_qOf_1 : cX11_qOf.data.toList.drop 23 = dktX11_qOf_1 := dk_seg dksX11_qOf_0 23 rfl rfl
theorem dksX11_qOf_2 : cX11_qOf.data.toList.drop 47 = dktX11_qOf_2 := dk_seg dksX11_qOf_1 24 rfl rfl
theorem dksX11_qOf_3 : cX11_qOf.data.toList.drop 71 = dktX11_qOf_3 := dk_seg dksX11_qOf_2 24 rfl rfl
theorem dX11_qOf_0 : decode cX11_qOf 0 = .ok (.iload_n 1, 1) := dk_27 (dk_at dksX11_qOf_0 0 rfl rfl)
theorem dX11_qOf_1 : decode cX11_qOf 1 = .ok (.lookupswitch 48 #[(0, 19)], 19) := by decide +kernel
theorem dX11_qOf_20 : decode cX11_qOf 20 = .ok (.lload_n 2, 1) := dk_32 (dk_at dksX11_qOf_0 20 rfl rfl)
theorem dX11_qOf_21 : decode cX11_qOf 21 = .ok (.lconst 0, 1) := dk_9 (dk_at dksX11_qOf_0 21 rfl rfl)
theorem dX11_qOf_22 : decode cX11_qOf 22 = .ok (.aload_n 0, 1) := dk_42 (dk_at dksX11_qOf_0 22 rfl rfl)
theorem dX11_qOf_23 : decode cX11_qOf 23 = .ok (.invokevirtual 402, 3) := dk_182 1 146 (dk_at dksX11_qOf_1 0 rfl rfl)
theorem dX11_qOf_26 : decode cX11_qOf 26 = .ok (.iconst 1, 1) := dk_4 (dk_at dksX11_qOf_1 3 rfl rfl)
theorem dX11_qOf_27 : decode cX11_qOf 27 = .ok (.isub, 1) := dk_100 (dk_at dksX11_qOf_1 4 rfl rfl)
theorem dX11_qOf_28 : decode cX11_qOf 28 = .ok (.i2l, 1) := dk_133 (dk_at dksX11_qOf_1 5 rfl rfl)
theorem dX11_qOf_29 : decode cX11_qOf 29 = .ok (.invokestatic 275, 3) := dk_184 1 19 (dk_at dksX11_qOf_1 6 rfl rfl)
theorem dX11_qOf_32 : decode cX11_qOf 32 = .ok (.ifCond .eq 15, 3) := dk_153 0 15 (dk_at dksX11_qOf_1 9 rfl rfl)
theorem dX11_qOf_35 : decode cX11_qOf 35 = .ok (.aload_n 0, 1) := dk_42 (dk_at dksX11_qOf_1 12 rfl rfl)
theorem dX11_qOf_36 : decode cX11_qOf 36 = .ok (.iload 4, 2) := dk_21 4 (dk_at dksX11_qOf_1 13 rfl rfl)
theorem dX11_qOf_38 : decode cX11_qOf 38 = .ok (.lload_n 2, 1) := dk_32 (dk_at dksX11_qOf_1 15 rfl rfl)
theorem dX11_qOf_39 : decode cX11_qOf 39 = .ok (.l2i, 1) := dk_136 (dk_at dksX11_qOf_1 16 rfl rfl)
theorem dX11_qOf_40 : decode cX11_qOf 40 = .ok (.invokevirtual 494, 3) := dk_182 1 238 (dk_at dksX11_qOf_1 17 rfl rfl)
theorem dX11_qOf_43 : decode cX11_qOf 43 = .ok (.i2l, 1) := dk_133 (dk_at dksX11_qOf_1 20 rfl rfl)
theorem dX11_qOf_44 : decode cX11_qOf 44 = .ok (.goto 4, 3) := dk_167 0 4 (dk_at dksX11_qOf_1 21 rfl rfl)
theorem dX11_qOf_47 : decode cX11_qOf 47 = .ok (.lconst 0, 1) := dk_9 (dk_at dksX11_qOf_2 0 rfl rfl)
theorem dX11_qOf_48 : decode cX11_qOf 48 = .ok (.lreturn, 1) := dk_173 (dk_at dksX11_qOf_2 1 rfl rfl)
theorem dX11_qOf_49 : decode cX11_qOf 49 = .ok (.lload_n 2, 1) := dk_32 (dk_at dksX11_qOf_2 2 rfl rfl)
theorem dX11_qOf_50 : decode cX11_qOf 50 = .ok (.lconst 0, 1) := dk_9 (dk_at dksX11_qOf_2 3 rfl rfl)
theorem dX11_qOf_51 : decode cX11_qOf 51 = .ok (.ldc2_w 578, 3) := dk_20 2 66 (dk_at dksX11_qOf_2 4 rfl rfl)
theorem dX11_qOf_54 : decode cX11_qOf 54 = .ok (.invokestatic 275, 3) := dk_184 1 19 (dk_at dksX11_qOf_2 7 rfl rfl)
theorem dX11_qOf_57 : decode cX11_qOf 57 = .ok (.ifCond .eq 33, 3) := dk_153 0 33 (dk_at dksX11_qOf_2 10 rfl rfl)
theorem dX11_qOf_60 : decode cX11_qOf 60 = .ok (.aload_n 0, 1) := dk_42 (dk_at dksX11_qOf_2 13 rfl rfl)
theorem dX11_qOf_61 : decode cX11_qOf 61 = .ok (.getfield 111, 3) := dk_180 0 111 (dk_at dksX11_qOf_2 14 rfl rfl)
theorem dX11_qOf_64 : decode cX11_qOf 64 = .ok (.sipush 144, 3) := dk_17 0 144 (dk_at dksX11_qOf_2 17 rfl rfl)
theorem dX11_qOf_67 : decode cX11_qOf 67 = .ok (.lload_n 2, 1) := dk_32 (dk_at dksX11_qOf_2 20 rfl rfl)
theorem dX11_qOf_68 : decode cX11_qOf 68 = .ok (.l2i, 1) := dk_136 (dk_at dksX11_qOf_2 21 rfl rfl)
theorem dX11_qOf_69 : decode cX11_qOf 69 = .ok (.iadd, 1) := dk_96 (dk_at dksX11_qOf_2 22 rfl rfl)
theorem dX11_qOf_70 : decode cX11_qOf 70 = .ok (.iaload, 1) := dk_46 (dk_at dksX11_qOf_2 23 rfl rfl)
theorem dX11_qOf_71 : decode cX11_qOf 71 = .ok (.iconst (-1), 1) := dk_2 (dk_at dksX11_qOf_3 0 rfl rfl)
theorem dX11_qOf_72 : decode cX11_qOf 72 = .ok (.if_icmp .eq 18, 3) := dk_159 0 18 (dk_at dksX11_qOf_3 1 rfl rfl)
theorem dX11_qOf_75 : decode cX11_qOf 75 = .ok (.aload_n 0, 1) := dk_42 (dk_at dksX11_qOf_3 4 rfl rfl)
theorem dX11_qOf_76 : decode cX11_qOf 76 = .ok (.getfield 111, 3) := dk_180 0 111 (dk_at dksX11_qOf_3 5 rfl rfl)
theorem dX11_qOf_79 : decode cX11_qOf 79 = .ok (.sipush 144, 3) := dk_17 0 144 (dk_at dksX11_qOf_3 8 rfl rfl)
theorem dX11_qOf_82 : decode cX11_qOf 82 = .ok (.lload_n 2, 1) := dk_32 (dk_at dksX11_qOf_3 11 rfl rfl)
theorem dX11_qOf_83 : decode cX11_qOf 83 = .ok (.l2i, 1) := dk_136 (dk_at dksX11_qOf_3 12 rfl rfl)
theorem dX11_qOf_84 : decode cX11_qOf 84 = .ok (.iadd, 1) := dk_96 (dk_at dksX11_qOf_3 13 rfl rfl)
theorem dX11_qOf_85 : decode cX11_qOf 85 = .ok (.iaload, 1) := dk_46 (dk_at dksX11_qOf_3 14 rfl rfl)
theorem dX11_qOf_86 : decode cX11_qOf 86 = .ok (.i2l, 1) := dk_133 (dk_at dksX11_qOf_3 15 rfl rfl)
theorem dX11_qOf_87 : decode cX11_qOf 87 = .ok (.goto 4, 3) := dk_167 0 4 (dk_at dksX11_qOf_3 16 rfl rfl)
theorem dX11_qOf_90 : decode cX11_qOf 90 = .ok (.lconst 0, 1) := dk_9 (dk_at dksX11_qOf_3 19 rfl rfl)
theorem dX11_qOf_91 : decode cX11_qOf 91 = .ok (.lreturn, 1) := dk_173 (dk_at dksX11_qOf_3 20 rfl rfl)
abbrev cX11_qTakes : ByteArray := prog_26_method_150_code
def yX11_qTakes : MethodName := ⟨RX11, "qTakes", "(IJI)V"⟩
def dkwX11_qTakes_5 : List UInt8 := [42, 180, 2, 217, 148, 156, 0, 8, 42, 32, 181, 2, 217, 42, 3, 181, 2, 222, 177]
abbrev dktX11_qTakes_5 : List UInt8 := dkwX11_qTakes_5 ++ []
def dkwX11_qTakes_4 : List UInt8 := [180, 2, 222, 154, 0, 29, 27, 7, 160, 0, 15, 32, 42, 180, 2, 217, 148, 158, 0, 20, 167, 0, 12, 32]
abbrev dktX11_qTakes_4 : List UInt8 := dkwX11_qTakes_4 ++ dktX11_qTakes_5
def dkwX11_qTakes_3 : List UInt8 := [181, 2, 217, 27, 6, 160, 0, 13, 42, 89, 180, 2, 217, 32, 97, 181, 2, 217, 27, 6, 164, 0, 41, 42]
abbrev dktX11_qTakes_3 : List UInt8 := dkwX11_qTakes_3 ++ dktX11_qTakes_4
def dkwX11_qTakes_2 : List UInt8 := [42, 21, 4, 133, 181, 2, 217, 27, 5, 160, 0, 18, 21, 5, 153, 0, 13, 42, 89, 180, 2, 217, 10, 97]
abbrev dktX11_qTakes_2 : List UInt8 := dkwX11_qTakes_2 ++ dktX11_qTakes_3
def dkwX11_qTakes_1 : List UInt8 := [153, 0, 14, 42, 180, 2, 217, 20, 2, 220, 148, 153, 0, 13, 27, 4, 160, 0, 15, 21, 5, 153, 0, 10]
abbrev dktX11_qTakes_1 : List UInt8 := dkwX11_qTakes_1 ++ dktX11_qTakes_2
def dkwX11_qTakes_0 : List UInt8 := [27, 6, 162, 0, 13, 32, 10, 148, 154, 0, 7, 4, 167, 0, 4, 3, 54, 5, 27, 154, 0, 19, 21, 5]
abbrev dktX11_qTakes_0 : List UInt8 := dkwX11_qTakes_0 ++ dktX11_qTakes_1
theorem dksX11_qTakes_0 : cX11_qTakes.data.toList.drop 0 = dktX11_qTakes_0 := by decide +kernel
theorem dksX11_qTakes_1 : cX11_qTakes.data.toList.drop 24 = dktX11_qTakes_1 := dk_seg dksX11_qTakes_0 24 rfl rfl
theorem dksX11_qTakes_2 : cX11_qTakes.data.toList.drop 48 = dktX11_qTakes_2 := dk_seg dksX11_qTakes_1 24 rfl rfl
theorem dksX11_qTakes_3 : cX11_qTakes.data.toList.drop 72 = dktX11_qTakes_3 := dk_seg dksX11_qTakes_2 24 rfl rfl
theorem dksX11_qTakes_4 : cX11_qTakes.data.toList.drop 96 = dktX11_qTakes_4 := dk_seg dksX11_qTakes_3 24 rfl rfl
theorem dksX11_qTakes_5 : cX11_qTakes.data.toList.drop 120 = dktX11_qTakes_5 := dk_seg dksX11_qTakes_4 24 rfl rfl
theorem dX11_qTakes_0 : decode cX11_qTakes 0 = .ok (.iload_n 1, 1) := dk_27 (dk_at dksX11_qTakes_0 0 rfl rfl)
theorem dX11_qTakes_1 : decode cX11_qTakes 1 = .ok (.iconst 3, 1) := dk_6 (dk_at dksX11_qTakes_0 1 rfl rfl)
theorem dX11_qTakes_2 : decode cX11_qTakes 2 = .ok (.if_icmp .ge 13, 3) := dk_162 0 13 (dk_at dksX11_qTakes_0 2 rfl rfl)
theorem dX11_qTakes_5 : decode cX11_qTakes 5 = .ok (.lload_n 2, 1) := dk_32 (dk_at dksX11_qTakes_0 5 rfl rfl)
theorem dX11_qTakes_6 : decode cX11_qTakes 6 = .ok (.lconst 1, 1) := dk_10 (dk_at dksX11_qTakes_0 6 rfl rfl)
theorem dX11_qTakes_7 : decode cX11_qTakes 7 = .ok (.lcmp, 1) := dk_148 (dk_at dksX11_qTakes_0 7 rfl rfl)
theorem dX11_qTakes_8 : decode cX11_qTakes 8 = .ok (.ifCond .ne 7, 3) := dk_154 0 7 (dk_at dksX11_qTakes_0 8 rfl rfl)
theorem dX11_qTakes_11 : decode cX11_qTakes 11 = .ok (.iconst 1, 1) := dk_4 (dk_at dksX11_qTakes_0 11 rfl rfl)
theorem dX11_qTakes_12 : decode cX11_qTakes 12 = .ok (.goto 4, 3) := dk_167 0 4 (dk_at dksX11_qTakes_0 12 rfl rfl)
theorem dX11_qTakes_15 : decode cX11_qTakes 15 = .ok (.iconst 0, 1) := dk_3 (dk_at dksX11_qTakes_0 15 rfl rfl)
theorem dX11_qTakes_16 : decode cX11_qTakes 16 = .ok (.istore 5, 2) := dk_54 5 (dk_at dksX11_qTakes_0 16 rfl rfl)
theorem dX11_qTakes_18 : decode cX11_qTakes 18 = .ok (.iload_n 1, 1) := dk_27 (dk_at dksX11_qTakes_0 18 rfl rfl)
theorem dX11_qTakes_19 : decode cX11_qTakes 19 = .ok (.ifCond .ne 19, 3) := dk_154 0 19 (dk_at dksX11_qTakes_0 19 rfl rfl)
theorem dX11_qTakes_22 : decode cX11_qTakes 22 = .ok (.iload 5, 2) := dk_21 5 (dk_at dksX11_qTakes_0 22 rfl rfl)
theorem dX11_qTakes_24 : decode cX11_qTakes 24 = .ok (.ifCond .eq 14, 3) := dk_153 0 14 (dk_at dksX11_qTakes_1 0 rfl rfl)
theorem dX11_qTakes_27 : decode cX11_qTakes 27 = .ok (.aload_n 0, 1) := dk_42 (dk_at dksX11_qTakes_1 3 rfl rfl)
theorem dX11_qTakes_28 : decode cX11_qTakes 28 = .ok (.getfield 729, 3) := dk_180 2 217 (dk_at dksX11_qTakes_1 4 rfl rfl)
theorem dX11_qTakes_31 : decode cX11_qTakes 31 = .ok (.ldc2_w 732, 3) := dk_20 2 220 (dk_at dksX11_qTakes_1 7 rfl rfl)
theorem dX11_qTakes_34 : decode cX11_qTakes 34 = .ok (.lcmp, 1) := dk_148 (dk_at dksX11_qTakes_1 10 rfl rfl)
theorem dX11_qTakes_35 : decode cX11_qTakes 35 = .ok (.ifCond .eq 13, 3) := dk_153 0 13 (dk_at dksX11_qTakes_1 11 rfl rfl)
theorem dX11_qTakes_38 : decode cX11_qTakes 38 = .ok (.iload_n 1, 1) := dk_27 (dk_at dksX11_qTakes_1 14 rfl rfl)
theorem dX11_qTakes_39 : decode cX11_qTakes 39 = .ok (.iconst 1, 1) := dk_4 (dk_at dksX11_qTakes_1 15 rfl rfl)
theorem dX11_qTakes_40 : decode cX11_qTakes 40 = .ok (.if_icmp .ne 15, 3) := dk_160 0 15 (dk_at dksX11_qTakes_1 16 rfl rfl)
theorem dX11_qTakes_43 : decode cX11_qTakes 43 = .ok (.iload 5, 2) := dk_21 5 (dk_at dksX11_qTakes_1 19 rfl rfl)
theorem dX11_qTakes_45 : decode cX11_qTakes 45 = .ok (.ifCond .eq 10, 3) := dk_153 0 10 (dk_at dksX11_qTakes_1 21 rfl rfl)
theorem dX11_qTakes_48 : decode cX11_qTakes 48 = .ok (.aload_n 0, 1) := dk_42 (dk_at dksX11_qTakes_2 0 rfl rfl)
theorem dX11_qTakes_49 : decode cX11_qTakes 49 = .ok (.iload 4, 2) := dk_21 4 (dk_at dksX11_qTakes_2 1 rfl rfl)
theorem dX11_qTakes_51 : decode cX11_qTakes 51 = .ok (.i2l, 1) := dk_133 (dk_at dksX11_qTakes_2 3 rfl rfl)
theorem dX11_qTakes_52 : decode cX11_qTakes 52 = .ok (.putfield 729, 3) := dk_181 2 217 (dk_at dksX11_qTakes_2 4 rfl rfl)
theorem dX11_qTakes_55 : decode cX11_qTakes 55 = .ok (.iload_n 1, 1) := dk_27 (dk_at dksX11_qTakes_2 7 rfl rfl)
theorem dX11_qTakes_56 : decode cX11_qTakes 56 = .ok (.iconst 2, 1) := dk_5 (dk_at dksX11_qTakes_2 8 rfl rfl)
theorem dX11_qTakes_57 : decode cX11_qTakes 57 = .ok (.if_icmp .ne 18, 3) := dk_160 0 18 (dk_at dksX11_qTakes_2 9 rfl rfl)
theorem dX11_qTakes_60 : decode cX11_qTakes 60 = .ok (.iload 5, 2) := dk_21 5 (dk_at dksX11_qTakes_2 12 rfl rfl)
theorem dX11_qTakes_62 : decode cX11_qTakes 62 = .ok (.ifCond .eq 13, 3) := dk_153 0 13 (dk_at dksX11_qTakes_2 14 rfl rfl)
theorem dX11_qTakes_65 : decode cX11_qTakes 65 = .ok (.aload_n 0, 1) := dk_42 (dk_at dksX11_qTakes_2 17 rfl rfl)
theorem dX11_qTakes_66 : decode cX11_qTakes 66 = .ok (.dup, 1) := dk_89 (dk_at dksX11_qTakes_2 18 rfl rfl)
theorem dX11_qTakes_67 : decode cX11_qTakes 67 = .ok (.getfield 729, 3) := dk_180 2 217 (dk_at dksX11_qTakes_2 19 rfl rfl)
theorem dX11_qTakes_70 : decode cX11_qTakes 70 = .ok (.lconst 1, 1) := dk_10 (dk_at dksX11_qTakes_2 22 rfl rfl)
theorem dX11_qTakes_71 : decode cX11_qTakes 71 = .ok (.ladd, 1) := dk_97 (dk_at dksX11_qTakes_2 23 rfl rfl)
theorem dX11_qTakes_72 : decode cX11_qTakes 72 = .ok (.putfield 729, 3) := dk_181 2 217 (dk_at dksX11_qTakes_3 0 rfl rfl)
theorem dX11_qTakes_75 : decode cX11_qTakes 75 = .ok (.iload_n 1, 1) := dk_27 (dk_at dksX11_qTakes_3 3 rfl rfl)
theorem dX11_qTakes_76 : decode cX11_qTakes 76 = .ok (.iconst 3, 1) := dk_6 (dk_at dksX11_qTakes_3 4 rfl rfl)
theorem dX11_qTakes_77 : decode cX11_qTakes 77 = .ok (.if_icmp .ne 13, 3) := dk_160 0 13 (dk_at dksX11_qTakes_3 5 rfl rfl)
theorem dX11_qTakes_80 : decode cX11_qTakes 80 = .ok (.aload_n 0, 1) := dk_42 (dk_at dksX11_qTakes_3 8 rfl rfl)
theorem dX11_qTakes_81 : decode cX11_qTakes 81 = .ok (.dup, 1) := dk_89 (dk_at dksX11_qTakes_3 9 rfl rfl)
theorem dX11_qTakes_82 : decode cX11_qTakes 82 = .ok (.getfield 729, 3) := dk_180 2 217 (dk_at dksX11_qTakes_3 10 rfl rfl)
theorem dX11_qTakes_85 : decode cX11_qTakes 85 = .ok (.lload_n 2, 1) := dk_32 (dk_at dksX11_qTakes_3 13 rfl rfl)
theorem dX11_qTakes_86 : decode cX11_qTakes 86 = .ok (.ladd, 1) := dk_97 (dk_at dksX11_qTakes_3 14 rfl rfl)
theorem dX11_qTakes_87 : decode cX11_qTakes 87 = .ok (.putfield 729, 3) := dk_181 2 217 (dk_at dksX11_qTakes_3 15 rfl rfl)
theorem dX11_qTakes_90 : decode cX11_qTakes 90 = .ok (.iload_n 1, 1) := dk_27 (dk_at dksX11_qTakes_3 18 rfl rfl)
theorem dX11_qTakes_91 : decode cX11_qTakes 91 = .ok (.iconst 3, 1) := dk_6 (dk_at dksX11_qTakes_3 19 rfl rfl)
theorem dX11_qTakes_92 : decode cX11_qTakes 92 = .ok (.if_icmp .le 41, 3) := dk_164 0 41 (dk_at dksX11_qTakes_3 20 rfl rfl)
theorem dX11_qTakes_95 : decode cX11_qTakes 95 = .ok (.aload_n 0, 1) := dk_42 (dk_at dksX11_qTakes_3 23 rfl rfl)
theorem dX11_qTakes_96 : decode cX11_qTakes 96 = .ok (.getfield 734, 3) := dk_180 2 222 (dk_at dksX11_qTakes_4 0 rfl rfl)
theorem dX11_qTakes_99 : decode cX11_qTakes 99 = .ok (.ifCond .ne 29, 3) := dk_154 0 29 (dk_at dksX11_qTakes_4 3 rfl rfl)
theorem dX11_qTakes_102 : decode cX11_qTakes 102 = .ok (.iload_n 1, 1) := dk_27 (dk_at dksX11_qTakes_4 6 rfl rfl)
theorem dX11_qTakes_103 : decode cX11_qTakes 103 = .ok (.iconst 4, 1) := dk_7 (dk_at dksX11_qTakes_4 7 rfl rfl)
theorem dX11_qTakes_104 : decode cX11_qTakes 104 = .ok (.if_icmp .ne 15, 3) := dk_160 0 15 (dk_at dksX11_qTakes_4 8 rfl rfl)
theorem dX11_qTakes_107 : decode cX11_qTakes 107 = .ok (.lload_n 2, 1) := dk_32 (dk_at dksX11_qTakes_4 11 rfl rfl)
theorem dX11_qTakes_108 : decode cX11_qTakes 108 = .ok (.aload_n 0, 1) := dk_42 (dk_at dksX11_qTakes_4 12 rfl rfl)
theorem dX11_qTakes_109 : decode cX11_qTakes 109 = .ok (.getfield 729, 3) := dk_180 2 217 (dk_at dksX11_qTakes_4 13 rfl rfl)
theorem dX11_qTakes_112 : decode cX11_qTakes 112 = .ok (.lcmp, 1) := dk_148 (dk_at dksX11_qTakes_4 16 rfl rfl)
theorem dX11_qTakes_113 : decode cX11_qTakes 113 = .ok (.ifCond .le 20, 3) := dk_158 0 20 (dk_at dksX11_qTakes_4 17 rfl rfl)
theorem dX11_qTakes_116 : decode cX11_qTakes 116 = .ok (.goto 12, 3) := dk_167 0 12 (dk_at dksX11_qTakes_4 20 rfl rfl)
theorem dX11_qTakes_119 : decode cX11_qTakes 119 = .ok (.lload_n 2, 1) := dk_32 (dk_at dksX11_qTakes_4 23 rfl rfl)
theorem dX11_qTakes_120 : decode cX11_qTakes 120 = .ok (.aload_n 0, 1) := dk_42 (dk_at dksX11_qTakes_5 0 rfl rfl)
theorem dX11_qTakes_121 : decode cX11_qTakes 121 = .ok (.getfield 729, 3) := dk_180 2 217 (dk_at dksX11_qTakes_5 1 rfl rfl)
theorem dX11_qTakes_124 : decode cX11_qTakes 124 = .ok (.lcmp, 1) := dk_148 (dk_at dksX11_qTakes_5 4 rfl rfl)
theorem dX11_qTakes_125 : decode cX11_qTakes 125 = .ok (.ifCond .ge 8, 3) := dk_156 0 8 (dk_at dksX11_qTakes_5 5 rfl rfl)
theorem dX11_qTakes_128 : decode cX11_qTakes 128 = .ok (.aload_n 0, 1) := dk_42 (dk_at dksX11_qTakes_5 8 rfl rfl)
theorem dX11_qTakes_129 : decode cX11_qTakes 129 = .ok (.lload_n 2, 1) := dk_32 (dk_at dksX11_qTakes_5 9 rfl rfl)
theorem dX11_qTakes_130 : decode cX11_qTakes 130 = .ok (.putfield 729, 3) := dk_181 2 217 (dk_at dksX11_qTakes_5 10 rfl rfl)
theorem dX11_qTakes_133 : decode cX11_qTakes 133 = .ok (.aload_n 0, 1) := dk_42 (dk_at dksX11_qTakes_5 13 rfl rfl)
theorem dX11_qTakes_134 : decode cX11_qTakes 134 = .ok (.iconst 0, 1) := dk_3 (dk_at dksX11_qTakes_5 14 rfl rfl)
theorem dX11_qTakes_135 : decode cX11_qTakes 135 = .ok (.putfield 734, 3) := dk_181 2 222 (dk_at dksX11_qTakes_5 15 rfl rfl)
theorem dX11_qTakes_138 : decode cX11_qTakes 138 = .ok (.return_, 1) := dk_177 (dk_at dksX11_qTakes_5 18 rfl rfl)
abbrev cX11_octet : ByteArray := prog_26_method_156_code
def yX11_octet : MethodName := ⟨RX11, "octet", "(I)I"⟩
def dkwX11_octet_0 : List UInt8 := [27, 155, 0, 20, 27, 42, 180, 2, 237, 162, 0, 12, 42, 180, 0, 226, 27, 46, 167, 0, 4, 2, 172]
abbrev dktX11_octet_0 : List UInt8 := dkwX11_octet_0 ++ []
theorem dksX11_octet_0 : cX11_octet.data.toList.drop 0 = dktX11_octet_0 := by decide +kernel
theorem dX11_octet_0 : decode cX11_octet 0 = .ok (.iload_n 1, 1) := dk_27 (dk_at dksX11_octet_0 0 rfl rfl)
theorem dX11_octet_1 : decode cX11_octet 1 = .ok (.ifCond .lt 20, 3) := dk_155 0 20 (dk_at dksX11_octet_0 1 rfl rfl)
theorem dX11_octet_4 : decode cX11_octet 4 = .ok (.iload_n 1, 1) := dk_27 (dk_at dksX11_octet_0 4 rfl rfl)
theorem dX11_octet_5 : decode cX11_octet 5 = .ok (.aload_n 0, 1) := dk_42 (dk_at dksX11_octet_0 5 rfl rfl)
theorem dX11_octet_6 : decode cX11_octet 6 = .ok (.getfield 749, 3) := dk_180 2 237 (dk_at dksX11_octet_0 6 rfl rfl)
theorem dX11_octet_9 : decode cX11_octet 9 = .ok (.if_icmp .ge 12, 3) := dk_162 0 12 (dk_at dksX11_octet_0 9 rfl rfl)
theorem dX11_octet_12 : decode cX11_octet 12 = .ok (.aload_n 0, 1) := dk_42 (dk_at dksX11_octet_0 12 rfl rfl)
theorem dX11_octet_13 : decode cX11_octet 13 = .ok (.getfield 226, 3) := dk_180 0 226 (dk_at dksX11_octet_0 13 rfl rfl)
theorem dX11_octet_16 : decode cX11_octet 16 = .ok (.iload_n 1, 1) := dk_27 (dk_at dksX11_octet_0 16 rfl rfl)
theorem dX11_octet_17 : decode cX11_octet 17 = .ok (.iaload, 1) := dk_46 (dk_at dksX11_octet_0 17 rfl rfl)
theorem dX11_octet_18 : decode cX11_octet 18 = .ok (.goto 4, 3) := dk_167 0 4 (dk_at dksX11_octet_0 18 rfl rfl)
theorem dX11_octet_21 : decode cX11_octet 21 = .ok (.iconst (-1), 1) := dk_2 (dk_at dksX11_octet_0 21 rfl rfl)
theorem dX11_octet_22 : decode cX11_octet 22 = .ok (.ireturn, 1) := dk_172 (dk_at dksX11_octet_0 22 rfl rfl)
abbrev cX11_status : ByteArray := prog_26_method_157_code
def yX11_status : MethodName := ⟨RX11, "status", "(I)I"⟩
def dkwX11_status_0 : List UInt8 := [27, 133, 9, 20, 2, 243, 184, 1, 19, 153, 0, 12, 42, 180, 0, 17, 27, 46, 167, 0, 4, 2, 172]
abbrev dktX11_status_0 : List UInt8 := dkwX11_status_0 ++ []
theorem dksX11_status_0 : cX11_status.data.toList.drop 0 = dktX11_status_0 := by decide +kernel
theorem dX11_status_0 : decode cX11_status 0 = .ok (.iload_n 1, 1) := dk_27 (dk_at dksX11_status_0 0 rfl rfl)
theorem dX11_status_1 : decode cX11_status 1 = .ok (.i2l, 1) := dk_133 (dk_at dksX11_status_0 1 rfl rfl)
theorem dX11_status_2 : decode cX11_status 2 = .ok (.lconst 0, 1) := dk_9 (dk_at dksX11_status_0 2 rfl rfl)
theorem dX11_status_3 : decode cX11_status 3 = .ok (.ldc2_w 755, 3) := dk_20 2 243 (dk_at dksX11_status_0 3 rfl rfl)
theorem dX11_status_6 : decode cX11_status 6 = .ok (.invokestatic 275, 3) := dk_184 1 19 (dk_at dksX11_status_0 6 rfl rfl)
theorem dX11_status_9 : decode cX11_status 9 = .ok (.ifCond .eq 12, 3) := dk_153 0 12 (dk_at dksX11_status_0 9 rfl rfl)
theorem dX11_status_12 : decode cX11_status 12 = .ok (.aload_n 0, 1) := dk_42 (dk_at dksX11_status_0 12 rfl rfl)
theorem dX11_status_13 : decode cX11_status 13 = .ok (.getfield 17, 3) := dk_180 0 17 (dk_at dksX11_status_0 13 rfl rfl)
theorem dX11_status_16 : decode cX11_status 16 = .ok (.iload_n 1, 1) := dk_27 (dk_at dksX11_status_0 16 rfl rfl)
theorem dX11_status_17 : decode cX11_status 17 = .ok (.iaload, 1) := dk_46 (dk_at dksX11_status_0 17 rfl rfl)
theorem dX11_status_18 : decode cX11_status 18 = .ok (.goto 4, 3) := dk_167 0 4 (dk_at dksX11_status_0 18 rfl rfl)
theorem dX11_status_21 : decode cX11_status 21 = .ok (.iconst (-1), 1) := dk_2 (dk_at dksX11_status_0 21 rfl rfl)
theorem dX11_status_22 : decode cX11_status 22 = .ok (.ireturn, 1) := dk_172 (dk_at dksX11_status_0 22 rfl rfl)
abbrev cX11_image : ByteArray := prog_26_method_158_code
def yX11_image : MethodName := ⟨RX11, "image", "()I"⟩
def dkwX11_image_6 : List UInt8 := [180, 2, 237, 172]
abbrev dktX11_image_6 : List UInt8 := dkwX11_image_6 ++ []
def dkwX11_image_5 : List UInt8 := [132, 1, 1, 167, 255, 219, 42, 42, 180, 0, 226, 42, 180, 2, 237, 184, 2, 249, 182, 2, 240, 42]
abbrev dktX11_image_5 : List UInt8 := dkwX11_image_5 ++ dktX11_image_6
def dkwX11_image_4 : List UInt8 := [182, 1, 146, 162, 0, 19, 42, 42, 27, 28, 182, 1, 238, 182, 2, 240, 132, 2, 1, 167, 255, 235]
abbrev dktX11_image_4 : List UInt8 := dkwX11_image_4 ++ dktX11_image_5
def dkwX11_image_3 : List UInt8 := [182, 2, 246, 132, 1, 1, 167, 255, 213, 3, 60, 27, 42, 182, 1, 104, 162, 0, 35, 3, 61, 28, 42]
abbrev dktX11_image_3 : List UInt8 := dkwX11_image_3 ++ dktX11_image_4
def dkwX11_image_2 : List UInt8 := [96, 46, 2, 160, 0, 9, 19, 1, 250, 167, 0, 13, 42, 180, 0, 111, 17, 0, 160, 27, 96, 46]
abbrev dktX11_image_2 : List UInt8 := dkwX11_image_2 ++ dktX11_image_3
def dkwX11_image_1 : List UInt8 := [19, 2, 245, 112, 182, 2, 246, 3, 60, 27, 16, 16, 162, 0, 43, 42, 42, 180, 0, 111, 17, 0, 160, 27]
abbrev dktX11_image_1 : List UInt8 := dkwX11_image_1 ++ dktX11_image_2
def dkwX11_image_0 : List UInt8 := [42, 180, 1, 84, 154, 0, 5, 2, 172, 42, 3, 181, 2, 237, 42, 42, 180, 0, 111, 16, 9, 46]
abbrev dktX11_image_0 : List UInt8 := dkwX11_image_0 ++ dktX11_image_1
theorem dksX11_image_0 : cX11_image.data.toList.drop 0 = dktX11_image_0 := by decide +kernel
theorem dksX11_image_1 : cX11_image.data.toList.drop 22 = dktX11_image_1 := dk_seg dksX11_image_0 22 rfl rfl
theorem dksX11_image_2 : cX11_image.data.toList.drop 46 = dktX11_image_2 := dk_seg dksX11_image_1 24 rfl rfl
theorem dksX11_image_3 : cX11_image.data.toList.drop 68 = dktX11_image_3 := dk_seg dksX11_image_2 22 rfl rfl
theorem dksX11_image_4 : cX11_image.data.toList.drop 91 = dktX11_image_4 := dk_seg dksX11_image_3 23 rfl rfl
theorem dksX11_image_5 : cX11_image.data.toList.drop 113 = dktX11_image_5 := dk_seg dksX11_image_4 22 rfl rfl
theorem dksX11_image_6 : cX11_image.data.toList.drop 135 = dktX11_image_6 := dk_seg dksX11_image_5 22 rfl rfl
theorem dX11_image_0 : decode cX11_image 0 = .ok (.aload_n 0, 1) := dk_42 (dk_at dksX11_image_0 0 rfl rfl)
theorem dX11_image_1 : decode cX11_image 1 = .ok (.getfield 340, 3) := dk_180 1 84 (dk_at dksX11_image_0 1 rfl rfl)
theorem dX11_image_4 : decode cX11_image 4 = .ok (.ifCond .ne 5, 3) := dk_154 0 5 (dk_at dksX11_image_0 4 rfl rfl)
theorem dX11_image_7 : decode cX11_image 7 = .ok (.iconst (-1), 1) := dk_2 (dk_at dksX11_image_0 7 rfl rfl)
theorem dX11_image_8 : decode cX11_image 8 = .ok (.ireturn, 1) := dk_172 (dk_at dksX11_image_0 8 rfl rfl)
theorem dX11_image_9 : decode cX11_image 9 = .ok (.aload_n 0, 1) := dk_42 (dk_at dksX11_image_0 9 rfl rfl)
theorem dX11_image_10 : decode cX11_image 10 = .ok (.iconst 0, 1) := dk_3 (dk_at dksX11_image_0 10 rfl rfl)
theorem dX11_image_11 : decode cX11_image 11 = .ok (.putfield 749, 3) := dk_181 2 237 (dk_at dksX11_image_0 11 rfl rfl)
theorem dX11_image_14 : decode cX11_image 14 = .ok (.aload_n 0, 1) := dk_42 (dk_at dksX11_image_0 14 rfl rfl)
theorem dX11_image_15 : decode cX11_image 15 = .ok (.aload_n 0, 1) := dk_42 (dk_at dksX11_image_0 15 rfl rfl)
theorem dX11_image_16 : decode cX11_image 16 = .ok (.getfield 111, 3) := dk_180 0 111 (dk_at dksX11_image_0 16 rfl rfl)
theorem dX11_image_19 : decode cX11_image 19 = .ok (.bipush 9, 2) := dk_16 9 (dk_at dksX11_image_0 19 rfl rfl)
theorem dX11_image_21 : decode cX11_image 21 = .ok (.iaload, 1) := dk_46 (dk_at dksX11_image_0 21 rfl rfl)
theorem dX11_image_22 : decode cX11_image 22 = .ok (.ldc_w 757, 3) := dk_19 2 245 (dk_at dksX11_image_1 0 rfl rfl)
theorem dX11_image_25 : decode cX11_image 25 = .ok (.irem, 1) := dk_112 (dk_at dksX11_image_1 3 rfl rfl)
theorem dX11_image_26 : decode cX11_image 26 = .ok (.invokevirtual 758, 3) := dk_182 2 246 (dk_at dksX11_image_1 4 rfl rfl)
theorem dX11_image_29 : decode cX11_image 29 = .ok (.iconst 0, 1) := dk_3 (dk_at dksX11_image_1 7 rfl rfl)
theorem dX11_image_30 : decode cX11_image 30 = .ok (.istore_n 1, 1) := dk_60 (dk_at dksX11_image_1 8 rfl rfl)
theorem dX11_image_31 : decode cX11_image 31 = .ok (.iload_n 1, 1) := dk_27 (dk_at dksX11_image_1 9 rfl rfl)
theorem dX11_image_32 : decode cX11_image 32 = .ok (.bipush 16, 2) := dk_16 16 (dk_at dksX11_image_1 10 rfl rfl)
theorem dX11_image_34 : decode cX11_image 34 = .ok (.if_icmp .ge 43, 3) := dk_162 0 43 (dk_at dksX11_image_1 12 rfl rfl)
theorem dX11_image_37 : decode cX11_image 37 = .ok (.aload_n 0, 1) := dk_42 (dk_at dksX11_image_1 15 rfl rfl)
theorem dX11_image_38 : decode cX11_image 38 = .ok (.aload_n 0, 1) := dk_42 (dk_at dksX11_image_1 16 rfl rfl)
theorem dX11_image_39 : decode cX11_image 39 = .ok (.getfield 111, 3) := dk_180 0 111 (dk_at dksX11_image_1 17 rfl rfl)
theorem dX11_image_42 : decode cX11_image 42 = .ok (.sipush 160, 3) := dk_17 0 160 (dk_at dksX11_image_1 20 rfl rfl)
theorem dX11_image_45 : decode cX11_image 45 = .ok (.iload_n 1, 1) := dk_27 (dk_at dksX11_image_1 23 rfl rfl)
theorem dX11_image_46 : decode cX11_image 46 = .ok (.iadd, 1) := dk_96 (dk_at dksX11_image_2 0 rfl rfl)
theorem dX11_image_47 : decode cX11_image 47 = .ok (.iaload, 1) := dk_46 (dk_at dksX11_image_2 1 rfl rfl)
theorem dX11_image_48 : decode cX11_image 48 = .ok (.iconst (-1), 1) := dk_2 (dk_at dksX11_image_2 2 rfl rfl)
theorem dX11_image_49 : decode cX11_image 49 = .ok (.if_icmp .ne 9, 3) := dk_160 0 9 (dk_at dksX11_image_2 3 rfl rfl)
theorem dX11_image_52 : decode cX11_image 52 = .ok (.ldc_w 506, 3) := dk_19 1 250 (dk_at dksX11_image_2 6 rfl rfl)
theorem dX11_image_55 : decode cX11_image 55 = .ok (.goto 13, 3) := dk_167 0 13 (dk_at dksX11_image_2 9 rfl rfl)
theorem dX11_image_58 : decode cX11_image 58 = .ok (.aload_n 0, 1) := dk_42 (dk_at dksX11_image_2 12 rfl rfl)
theorem dX11_image_59 : decode cX11_image 59 = .ok (.getfield 111, 3) := dk_180 0 111 (dk_at dksX11_image_2 13 rfl rfl)
theorem dX11_image_62 : decode cX11_image 62 = .ok (.sipush 160, 3) := dk_17 0 160 (dk_at dksX11_image_2 16 rfl rfl)
theorem dX11_image_65 : decode cX11_image 65 = .ok (.iload_n 1, 1) := dk_27 (dk_at dksX11_image_2 19 rfl rfl)
theorem dX11_image_66 : decode cX11_image 66 = .ok (.iadd, 1) := dk_96 (dk_at dksX11_image_2 20 rfl rfl)
theorem dX11_image_67 : decode cX11_image 67 = .ok (.iaload, 1) := dk_46 (dk_at dksX11_image_2 21 rfl rfl)
theorem dX11_image_68 : decode cX11_image 68 = .ok (.invokevirtual 758, 3) := dk_182 2 246 (dk_at dksX11_image_3 0 rfl rfl)
theorem dX11_image_71 : decode cX11_image 71 = .ok (.iinc 1 1, 3) := dk_132 1 1 (dk_at dksX11_image_3 3 rfl rfl)
theorem dX11_image_74 : decode cX11_image 74 = .ok (.goto (-43), 3) := dk_167 255 213 (dk_at dksX11_image_3 6 rfl rfl)
theorem dX11_image_77 : decode cX11_image 77 = .ok (.iconst 0, 1) := dk_3 (dk_at dksX11_image_3 9 rfl rfl)
theorem dX11_image_78 : decode cX11_image 78 = .ok (.istore_n 1, 1) := dk_60 (dk_at dksX11_image_3 10 rfl rfl)
theorem dX11_image_79 : decode cX11_image 79 = .ok (.iload_n 1, 1) := dk_27 (dk_at dksX11_image_3 11 rfl rfl)
theorem dX11_image_80 : decode cX11_image 80 = .ok (.aload_n 0, 1) := dk_42 (dk_at dksX11_image_3 12 rfl rfl)
theorem dX11_image_81 : decode cX11_image 81 = .ok (.invokevirtual 360, 3) := dk_182 1 104 (dk_at dksX11_image_3 13 rfl rfl)
theorem dX11_image_84 : decode cX11_image 84 = .ok (.if_icmp .ge 35, 3) := dk_162 0 35 (dk_at dksX11_image_3 16 rfl rfl)
theorem dX11_image_87 : decode cX11_image 87 = .ok (.iconst 0, 1) := dk_3 (dk_at dksX11_image_3 19 rfl rfl)
theorem dX11_image_88 : decode cX11_image 88 = .ok (.istore_n 2, 1) := dk_61 (dk_at dksX11_image_3 20 rfl rfl)
theorem dX11_image_89 : decode cX11_image 89 = .ok (.iload_n 2, 1) := dk_28 (dk_at dksX11_image_3 21 rfl rfl)
theorem dX11_image_90 : decode cX11_image 90 = .ok (.aload_n 0, 1) := dk_42 (dk_at dksX11_image_3 22 rfl rfl)
theorem dX11_image_91 : decode cX11_image 91 = .ok (.invokevirtual 402, 3) := dk_182 1 146 (dk_at dksX11_image_4 0 rfl rfl)
theorem dX11_image_94 : decode cX11_image 94 = .ok (.if_icmp .ge 19, 3) := dk_162 0 19 (dk_at dksX11_image_4 3 rfl rfl)
theorem dX11_image_97 : decode cX11_image 97 = .ok (.aload_n 0, 1) := dk_42 (dk_at dksX11_image_4 6 rfl rfl)
theorem dX11_image_98 : decode cX11_image 98 = .ok (.aload_n 0, 1) := dk_42 (dk_at dksX11_image_4 7 rfl rfl)
theorem dX11_image_99 : decode cX11_image 99 = .ok (.iload_n 1, 1) := dk_27 (dk_at dksX11_image_4 8 rfl rfl)
theorem dX11_image_100 : decode cX11_image 100 = .ok (.iload_n 2, 1) := dk_28 (dk_at dksX11_image_4 9 rfl rfl)
theorem dX11_image_101 : decode cX11_image 101 = .ok (.invokevirtual 494, 3) := dk_182 1 238 (dk_at dksX11_image_4 10 rfl rfl)
theorem dX11_image_104 : decode cX11_image 104 = .ok (.invokevirtual 752, 3) := dk_182 2 240 (dk_at dksX11_image_4 13 rfl rfl)
theorem dX11_image_107 : decode cX11_image 107 = .ok (.iinc 2 1, 3) := dk_132 2 1 (dk_at dksX11_image_4 16 rfl rfl)
theorem dX11_image_110 : decode cX11_image 110 = .ok (.goto (-21), 3) := dk_167 255 235 (dk_at dksX11_image_4 19 rfl rfl)
theorem dX11_image_113 : decode cX11_image 113 = .ok (.iinc 1 1, 3) := dk_132 1 1 (dk_at dksX11_image_5 0 rfl rfl)
theorem dX11_image_116 : decode cX11_image 116 = .ok (.goto (-37), 3) := dk_167 255 219 (dk_at dksX11_image_5 3 rfl rfl)
theorem dX11_image_119 : decode cX11_image 119 = .ok (.aload_n 0, 1) := dk_42 (dk_at dksX11_image_5 6 rfl rfl)
theorem dX11_image_120 : decode cX11_image 120 = .ok (.aload_n 0, 1) := dk_42 (dk_at dksX11_image_5 7 rfl rfl)
theorem dX11_image_121 : decode cX11_image 121 = .ok (.getfield 226, 3) := dk_180 0 226 (dk_at dksX11_image_5 8 rfl rfl)
theorem dX11_image_124 : decode cX11_image 124 = .ok (.aload_n 0, 1) := dk_42 (dk_at dksX11_image_5 11 rfl rfl)
theorem dX11_image_125 : decode cX11_image 125 = .ok (.getfield 749, 3) := dk_180 2 237 (dk_at dksX11_image_5 12 rfl rfl)
theorem dX11_image_128 : decode cX11_image 128 = .ok (.invokestatic 761, 3) := dk_184 2 249 (dk_at dksX11_image_5 15 rfl rfl)
theorem dX11_image_131 : decode cX11_image 131 = .ok (.invokevirtual 752, 3) := dk_182 2 240 (dk_at dksX11_image_5 18 rfl rfl)
theorem dX11_image_134 : decode cX11_image 134 = .ok (.aload_n 0, 1) := dk_42 (dk_at dksX11_image_5 21 rfl rfl)
theorem dX11_image_135 : decode cX11_image 135 = .ok (.getfield 749, 3) := dk_180 2 237 (dk_at dksX11_image_6 0 rfl rfl)
theorem dX11_image_138 : decode cX11_image 138 = .ok (.ireturn, 1) := dk_172 (dk_at dksX11_image_6 3 rfl rfl)
abbrev cX11_writesTwo : ByteArray := prog_26_method_154_code
def yX11_writesTwo : MethodName := ⟨RX11, "writesTwo", "(I)V"⟩
def dkwX11_writesTwo_0 : List UInt8 := [42, 27, 17, 1, 0, 108, 182, 2, 240, 42, 27, 17, 1, 0, 112, 182, 2, 240, 177]
abbrev dktX11_writesTwo_0 : List UInt8 := dkwX11_writesTwo_0 ++ []
theorem dksX11_writesTwo_0 : cX11_writesTwo.data.toList.drop 0 = dktX11_writesTwo_0 := by decide +kernel
theorem dX11_writesTwo_0 : decode cX11_writesTwo 0 = .ok (.aload_n 0, 1) := dk_42 (dk_at dksX11_writesTwo_0 0 rfl rfl)
theorem dX11_writesTwo_1 : decode cX11_writesTwo 1 = .ok (.iload_n 1, 1) := dk_27 (dk_at dksX11_writesTwo_0 1 rfl rfl)
theorem dX11_writesTwo_2 : decode cX11_writesTwo 2 = .ok (.sipush 256, 3) := dk_17 1 0 (dk_at dksX11_writesTwo_0 2 rfl rfl)
theorem dX11_writesTwo_5 : decode cX11_writesTwo 5 = .ok (.idiv, 1) := dk_108 (dk_at dksX11_writesTwo_0 5 rfl rfl)
theorem dX11_writesTwo_6 : decode cX11_writesTwo 6 = .ok (.invokevirtual 752, 3) := dk_182 2 240 (dk_at dksX11_writesTwo_0 6 rfl rfl)
theorem dX11_writesTwo_9 : decode cX11_writesTwo 9 = .ok (.aload_n 0, 1) := dk_42 (dk_at dksX11_writesTwo_0 9 rfl rfl)
theorem dX11_writesTwo_10 : decode cX11_writesTwo 10 = .ok (.iload_n 1, 1) := dk_27 (dk_at dksX11_writesTwo_0 10 rfl rfl)
theorem dX11_writesTwo_11 : decode cX11_writesTwo 11 = .ok (.sipush 256, 3) := dk_17 1 0 (dk_at dksX11_writesTwo_0 11 rfl rfl)
theorem dX11_writesTwo_14 : decode cX11_writesTwo 14 = .ok (.irem, 1) := dk_112 (dk_at dksX11_writesTwo_0 14 rfl rfl)
theorem dX11_writesTwo_15 : decode cX11_writesTwo 15 = .ok (.invokevirtual 752, 3) := dk_182 2 240 (dk_at dksX11_writesTwo_0 15 rfl rfl)
theorem dX11_writesTwo_18 : decode cX11_writesTwo 18 = .ok (.return_, 1) := dk_177 (dk_at dksX11_writesTwo_0 18 rfl rfl)
abbrev cX11_writes : ByteArray := prog_26_method_153_code
def yX11_writes : MethodName := ⟨RX11, "writes", "(I)V"⟩
def dkwX11_writes_0 : List UInt8 := [42, 180, 0, 226, 42, 180, 2, 237, 27, 79, 42, 89, 180, 2, 237, 4, 96, 181, 2, 237, 177]
abbrev dktX11_writes_0 : List UInt8 := dkwX11_writes_0 ++ []
theorem dksX11_writes_0 : cX11_writes.data.toList.drop 0 = dktX11_writes_0 := by decide +kernel
theorem dX11_writes_0 : decode cX11_writes 0 = .ok (.aload_n 0, 1) := dk_42 (dk_at dksX11_writes_0 0 rfl rfl)
theorem dX11_writes_1 : decode cX11_writes 1 = .ok (.getfield 226, 3) := dk_180 0 226 (dk_at dksX11_writes_0 1 rfl rfl)
theorem dX11_writes_4 : decode cX11_writes 4 = .ok (.aload_n 0, 1) := dk_42 (dk_at dksX11_writes_0 4 rfl rfl)
theorem dX11_writes_5 : decode cX11_writes 5 = .ok (.getfield 749, 3) := dk_180 2 237 (dk_at dksX11_writes_0 5 rfl rfl)
theorem dX11_writes_8 : decode cX11_writes 8 = .ok (.iload_n 1, 1) := dk_27 (dk_at dksX11_writes_0 8 rfl rfl)
theorem dX11_writes_9 : decode cX11_writes 9 = .ok (.iastore, 1) := dk_79 (dk_at dksX11_writes_0 9 rfl rfl)
theorem dX11_writes_10 : decode cX11_writes 10 = .ok (.aload_n 0, 1) := dk_42 (dk_at dksX11_writes_0 10 rfl rfl)
theorem dX11_writes_11 : decode cX11_writes 11 = .ok (.dup, 1) := dk_89 (dk_at dksX11_writes_0 11 rfl rfl)
theorem dX11_writes_12 : decode cX11_writes 12 = .ok (.getfield 749, 3) := dk_180 2 237 (dk_at dksX11_writes_0 12 rfl rfl)
theorem dX11_writes_15 : decode cX11_writes 15 = .ok (.iconst 1, 1) := dk_4 (dk_at dksX11_writes_0 15 rfl rfl)
theorem dX11_writes_16 : decode cX11_writes 16 = .ok (.iadd, 1) := dk_96 (dk_at dksX11_writes_0 16 rfl rfl)
theorem dX11_writes_17 : decode cX11_writes 17 = .ok (.putfield 749, 3) := dk_181 2 237 (dk_at dksX11_writes_0 17 rfl rfl)
theorem dX11_writes_20 : decode cX11_writes 20 = .ok (.return_, 1) := dk_177 (dk_at dksX11_writes_0 20 rfl rfl)
abbrev cX11_checked : ByteArray := prog_26_method_152_code
def yX11_checked : MethodName := ⟨RX11, "checked", "([II)I"⟩
def dkwX11_checked_1 : List UInt8 := [132, 3, 1, 167, 255, 236, 28, 172]
abbrev dktX11_checked_1 : List UInt8 := dkwX11_checked_1 ++ []
def dkwX11_checked_0 : List UInt8 := [17, 0, 139, 61, 3, 62, 29, 27, 162, 0, 21, 6, 28, 104, 42, 29, 46, 96, 17, 0, 251, 112, 61]
abbrev dktX11_checked_0 : List UInt8 := dkwX11_checked_0 ++ dktX11_checked_1
theorem dksX11_checked_0 : cX11_checked.data.toList.drop 0 = dktX11_checked_0 := by decide +kernel
theorem dksX11_checked_1 : cX11_checked.data.toList.drop 23 = dktX11_checked_1 := dk_seg dksX11_checked_0 23 rfl rfl
theorem dX11_checked_0 : decode cX11_checked 0 = .ok (.sipush 139, 3) := dk_17 0 139 (dk_at dksX11_checked_0 0 rfl rfl)
theorem dX11_checked_3 : decode cX11_checked 3 = .ok (.istore_n 2, 1) := dk_61 (dk_at dksX11_checked_0 3 rfl rfl)
theorem dX11_checked_4 : decode cX11_checked 4 = .ok (.iconst 0, 1) := dk_3 (dk_at dksX11_checked_0 4 rfl rfl)
theorem dX11_checked_5 : decode cX11_checked 5 = .ok (.istore_n 3, 1) := dk_62 (dk_at dksX11_checked_0 5 rfl rfl)
theorem dX11_checked_6 : decode cX11_checked 6 = .ok (.iload_n 3, 1) := dk_29 (dk_at dksX11_checked_0 6 rfl rfl)
theorem dX11_checked_7 : decode cX11_checked 7 = .ok (.iload_n 1, 1) := dk_27 (dk_at dksX11_checked_0 7 rfl rfl)
theorem dX11_checked_8 : decode cX11_checked 8 = .ok (.if_icmp .ge 21, 3) := dk_162 0 21 (dk_at dksX11_checked_0 8 rfl rfl)
theorem dX11_checked_11 : decode cX11_checked 11 = .ok (.iconst 3, 1) := dk_6 (dk_at dksX11_checked_0 11 rfl rfl)
theorem dX11_checked_12 : decode cX11_checked 12 = .ok (.iload_n 2, 1) := dk_28 (dk_at dksX11_checked_0 12 rfl rfl)
theorem dX11_checked_13 : decode cX11_checked 13 = .ok (.imul, 1) := dk_104 (dk_at dksX11_checked_0 13 rfl rfl)
theorem dX11_checked_14 : decode cX11_checked 14 = .ok (.aload_n 0, 1) := dk_42 (dk_at dksX11_checked_0 14 rfl rfl)
theorem dX11_checked_15 : decode cX11_checked 15 = .ok (.iload_n 3, 1) := dk_29 (dk_at dksX11_checked_0 15 rfl rfl)
theorem dX11_checked_16 : decode cX11_checked 16 = .ok (.iaload, 1) := dk_46 (dk_at dksX11_checked_0 16 rfl rfl)
theorem dX11_checked_17 : decode cX11_checked 17 = .ok (.iadd, 1) := dk_96 (dk_at dksX11_checked_0 17 rfl rfl)
theorem dX11_checked_18 : decode cX11_checked 18 = .ok (.sipush 251, 3) := dk_17 0 251 (dk_at dksX11_checked_0 18 rfl rfl)
theorem dX11_checked_21 : decode cX11_checked 21 = .ok (.irem, 1) := dk_112 (dk_at dksX11_checked_0 21 rfl rfl)
theorem dX11_checked_22 : decode cX11_checked 22 = .ok (.istore_n 2, 1) := dk_61 (dk_at dksX11_checked_0 22 rfl rfl)
theorem dX11_checked_23 : decode cX11_checked 23 = .ok (.iinc 3 1, 3) := dk_132 3 1 (dk_at dksX11_checked_1 0 rfl rfl)
theorem dX11_checked_26 : decode cX11_checked 26 = .ok (.goto (-20), 3) := dk_167 255 236 (dk_at dksX11_checked_1 3 rfl rfl)
theorem dX11_checked_29 : decode cX11_checked 29 = .ok (.iload_n 2, 1) := dk_28 (dk_at dksX11_checked_1 6 rfl rfl)
theorem dX11_checked_30 : decode cX11_checked 30 = .ok (.ireturn, 1) := dk_172 (dk_at dksX11_checked_1 7 rfl rfl)
abbrev cX11_on : ByteArray := prog_26_method_160_code
def yX11_on : MethodName := ⟨RX11, "on", "()Z"⟩
def dkwX11_on_10 : List UInt8 := [3, 181, 1, 91, 4, 172]
abbrev dktX11_on_10 : List UInt8 := dkwX11_on_10 ++ []
def dkwX11_on_9 : List UInt8 := [182, 1, 241, 79, 132, 2, 1, 167, 255, 210, 42, 182, 2, 52, 42, 180, 0, 111, 17, 8, 196, 3, 79, 42]
abbrev dktX11_on_9 : List UInt8 := dkwX11_on_9 ++ dktX11_on_10
def dkwX11_on_8 : List UInt8 := [42, 28, 182, 1, 241, 42, 180, 0, 111, 16, 8, 46, 164, 0, 15, 42, 180, 0, 111, 16, 8, 42, 28]
abbrev dktX11_on_8 : List UInt8 := dkwX11_on_8 ++ dktX11_on_9
def dkwX11_on_7 : List UInt8 := [132, 2, 1, 167, 255, 202, 3, 61, 28, 42, 182, 1, 104, 162, 0, 44, 42, 28, 182, 2, 23, 153, 0, 30]
abbrev dktX11_on_7 : List UInt8 := dkwX11_on_7 ++ dktX11_on_8
def dkwX11_on_6 : List UInt8 := [180, 0, 7, 16, 34, 42, 182, 1, 146, 28, 104, 96, 29, 96, 46, 182, 1, 137, 132, 3, 1, 167, 255, 218]
abbrev dktX11_on_6 : List UInt8 := dkwX11_on_6 ++ dktX11_on_7
def dkwX11_on_5 : List UInt8 := [162, 0, 52, 3, 62, 29, 42, 182, 1, 146, 162, 0, 36, 42, 17, 0, 128, 28, 104, 29, 96, 42]
abbrev dktX11_on_5 : List UInt8 := dkwX11_on_5 ++ dktX11_on_6
def dkwX11_on_4 : List UInt8 := [42, 5, 5, 28, 104, 96, 182, 2, 253, 79, 132, 2, 1, 167, 255, 209, 3, 61, 28, 42, 182, 1, 104]
abbrev dktX11_on_4 : List UInt8 := dkwX11_on_4 ++ dktX11_on_5
def dkwX11_on_3 : List UInt8 := [17, 0, 160, 28, 96, 42, 5, 5, 28, 104, 96, 182, 2, 253, 19, 1, 250, 160, 0, 7, 2, 167, 0, 12]
abbrev dktX11_on_3 : List UInt8 := dkwX11_on_3 ++ dktX11_on_4
def dkwX11_on_2 : List UInt8 := [180, 0, 111, 16, 9, 42, 3, 182, 2, 253, 79, 3, 61, 28, 16, 16, 162, 0, 47, 42, 180, 0, 111]
abbrev dktX11_on_2 : List UInt8 := dkwX11_on_2 ++ dktX11_on_3
def dkwX11_on_1 : List UInt8 := [172, 3, 61, 28, 16, 16, 162, 0, 16, 42, 180, 0, 111, 28, 3, 79, 132, 2, 1, 167, 255, 240, 42]
abbrev dktX11_on_1 : List UInt8 := dkwX11_on_1 ++ dktX11_on_2
def dkwX11_on_0 : List UInt8 := [42, 180, 0, 229, 60, 42, 3, 181, 0, 229, 42, 27, 182, 3, 0, 154, 0, 10, 42, 16, 6, 182, 2, 130]
abbrev dktX11_on_0 : List UInt8 := dkwX11_on_0 ++ dktX11_on_1
theorem dksX11_on_0 : cX11_on.data.toList.drop 0 = dktX11_on_0 := by decide +kernel
theorem dksX11_on_1 : cX11_on.data.toList.drop 24 = dktX11_on_1 := dk_seg dksX11_on_0 24 rfl rfl
theorem dksX11_on_2 : cX11_on.data.toList.drop 47 = dktX11_on_2 := dk_seg dksX11_on_1 23 rfl rfl
theorem dksX11_on_3 : cX11_on.data.toList.drop 70 = dktX11_on_3 := dk_seg dksX11_on_2 23 rfl rfl
theorem dksX11_on_4 : cX11_on.data.toList.drop 94 = dktX11_on_4 := dk_seg dksX11_on_3 24 rfl rfl
theorem dksX11_on_5 : cX11_on.data.toList.drop 117 = dktX11_on_5 := dk_seg dksX11_on_4 23 rfl rfl
theorem dksX11_on_6 : cX11_on.data.toList.drop 139 = dktX11_on_6 := dk_seg dksX11_on_5 22 rfl rfl
theorem dksX11_on_7 : cX11_on.data.toList.drop 163 = dktX11_on_7 := dk_seg dksX11_on_6 24 rfl rfl
theorem dksX11_on_8 : cX11_on.data.toList.drop 187 = dktX11_on_8 := dk_seg dksX11_on_7 24 rfl rfl
theorem dksX11_on_9 : cX11_on.data.toList.drop 210 = dktX11_on_9 := dk_seg dksX11_on_8 23 rfl rfl
theorem dksX11_on_10 : cX11_on.data.toList.drop 234 = dktX11_on_10 := dk_seg dksX11_on_9 24 rfl rfl
theorem dX11_on_0 : decode cX11_on 0 = .ok (.aload_n 0, 1) := dk_42 (dk_at dksX11_on_0 0 rfl rfl)
theorem dX11_on_1 : decode cX11_on 1 = .ok (.getfield 229, 3) := dk_180 0 229 (dk_at dksX11_on_0 1 rfl rfl)
theorem dX11_on_4 : decode cX11_on 4 = .ok (.istore_n 1, 1) := dk_60 (dk_at dksX11_on_0 4 rfl rfl)
theorem dX11_on_5 : decode cX11_on 5 = .ok (.aload_n 0, 1) := dk_42 (dk_at dksX11_on_0 5 rfl rfl)
theorem dX11_on_6 : decode cX11_on 6 = .ok (.iconst 0, 1) := dk_3 (dk_at dksX11_on_0 6 rfl rfl)
theorem dX11_on_7 : decode cX11_on 7 = .ok (.putfield 229, 3) := dk_181 0 229 (dk_at dksX11_on_0 7 rfl rfl)
theorem dX11_on_10 : decode cX11_on 10 = .ok (.aload_n 0, 1) := dk_42 (dk_at dksX11_on_0 10 rfl rfl)
theorem dX11_on_11 : decode cX11_on 11 = .ok (.iload_n 1, 1) := dk_27 (dk_at dksX11_on_0 11 rfl rfl)
theorem dX11_on_12 : decode cX11_on 12 = .ok (.invokevirtual 768, 3) := dk_182 3 0 (dk_at dksX11_on_0 12 rfl rfl)
theorem dX11_on_15 : decode cX11_on 15 = .ok (.ifCond .ne 10, 3) := dk_154 0 10 (dk_at dksX11_on_0 15 rfl rfl)
theorem dX11_on_18 : decode cX11_on 18 = .ok (.aload_n 0, 1) := dk_42 (dk_at dksX11_on_0 18 rfl rfl)
theorem dX11_on_19 : decode cX11_on 19 = .ok (.bipush 6, 2) := dk_16 6 (dk_at dksX11_on_0 19 rfl rfl)
theorem dX11_on_21 : decode cX11_on 21 = .ok (.invokevirtual 642, 3) := dk_182 2 130 (dk_at dksX11_on_0 21 rfl rfl)
theorem dX11_on_24 : decode cX11_on 24 = .ok (.ireturn, 1) := dk_172 (dk_at dksX11_on_1 0 rfl rfl)
theorem dX11_on_25 : decode cX11_on 25 = .ok (.iconst 0, 1) := dk_3 (dk_at dksX11_on_1 1 rfl rfl)
theorem dX11_on_26 : decode cX11_on 26 = .ok (.istore_n 2, 1) := dk_61 (dk_at dksX11_on_1 2 rfl rfl)
theorem dX11_on_27 : decode cX11_on 27 = .ok (.iload_n 2, 1) := dk_28 (dk_at dksX11_on_1 3 rfl rfl)
theorem dX11_on_28 : decode cX11_on 28 = .ok (.bipush 16, 2) := dk_16 16 (dk_at dksX11_on_1 4 rfl rfl)
theorem dX11_on_30 : decode cX11_on 30 = .ok (.if_icmp .ge 16, 3) := dk_162 0 16 (dk_at dksX11_on_1 6 rfl rfl)
theorem dX11_on_33 : decode cX11_on 33 = .ok (.aload_n 0, 1) := dk_42 (dk_at dksX11_on_1 9 rfl rfl)
theorem dX11_on_34 : decode cX11_on 34 = .ok (.getfield 111, 3) := dk_180 0 111 (dk_at dksX11_on_1 10 rfl rfl)
theorem dX11_on_37 : decode cX11_on 37 = .ok (.iload_n 2, 1) := dk_28 (dk_at dksX11_on_1 13 rfl rfl)
theorem dX11_on_38 : decode cX11_on 38 = .ok (.iconst 0, 1) := dk_3 (dk_at dksX11_on_1 14 rfl rfl)
theorem dX11_on_39 : decode cX11_on 39 = .ok (.iastore, 1) := dk_79 (dk_at dksX11_on_1 15 rfl rfl)
theorem dX11_on_40 : decode cX11_on 40 = .ok (.iinc 2 1, 3) := dk_132 2 1 (dk_at dksX11_on_1 16 rfl rfl)
theorem dX11_on_43 : decode cX11_on 43 = .ok (.goto (-16), 3) := dk_167 255 240 (dk_at dksX11_on_1 19 rfl rfl)
theorem dX11_on_46 : decode cX11_on 46 = .ok (.aload_n 0, 1) := dk_42 (dk_at dksX11_on_1 22 rfl rfl)
theorem dX11_on_47 : decode cX11_on 47 = .ok (.getfield 111, 3) := dk_180 0 111 (dk_at dksX11_on_2 0 rfl rfl)
theorem dX11_on_50 : decode cX11_on 50 = .ok (.bipush 9, 2) := dk_16 9 (dk_at dksX11_on_2 3 rfl rfl)
theorem dX11_on_52 : decode cX11_on 52 = .ok (.aload_n 0, 1) := dk_42 (dk_at dksX11_on_2 5 rfl rfl)
theorem dX11_on_53 : decode cX11_on 53 = .ok (.iconst 0, 1) := dk_3 (dk_at dksX11_on_2 6 rfl rfl)
theorem dX11_on_54 : decode cX11_on 54 = .ok (.invokevirtual 765, 3) := dk_182 2 253 (dk_at dksX11_on_2 7 rfl rfl)
theorem dX11_on_57 : decode cX11_on 57 = .ok (.iastore, 1) := dk_79 (dk_at dksX11_on_2 10 rfl rfl)
theorem dX11_on_58 : decode cX11_on 58 = .ok (.iconst 0, 1) := dk_3 (dk_at dksX11_on_2 11 rfl rfl)
theorem dX11_on_59 : decode cX11_on 59 = .ok (.istore_n 2, 1) := dk_61 (dk_at dksX11_on_2 12 rfl rfl)
theorem dX11_on_60 : decode cX11_on 60 = .ok (.iload_n 2, 1) := dk_28 (dk_at dksX11_on_2 13 rfl rfl)
theorem dX11_on_61 : decode cX11_on 61 = .ok (.bipush 16, 2) := dk_16 16 (dk_at dksX11_on_2 14 rfl rfl)
theorem dX11_on_63 : decode cX11_on 63 = .ok (.if_icmp .ge 47, 3) := dk_162 0 47 (dk_at dksX11_on_2 16 rfl rfl)
theorem dX11_on_66 : decode cX11_on 66 = .ok (.aload_n 0, 1) := dk_42 (dk_at dksX11_on_2 19 rfl rfl)
theorem dX11_on_67 : decode cX11_on 67 = .ok (.getfield 111, 3) := dk_180 0 111 (dk_at dksX11_on_2 20 rfl rfl)
theorem dX11_on_70 : decode cX11_on 70 = .ok (.sipush 160, 3) := dk_17 0 160 (dk_at dksX11_on_3 0 rfl rfl)
theorem dX11_on_73 : decode cX11_on 73 = .ok (.iload_n 2, 1) := dk_28 (dk_at dksX11_on_3 3 rfl rfl)
theorem dX11_on_74 : decode cX11_on 74 = .ok (.iadd, 1) := dk_96 (dk_at dksX11_on_3 4 rfl rfl)
theorem dX11_on_75 : decode cX11_on 75 = .ok (.aload_n 0, 1) := dk_42 (dk_at dksX11_on_3 5 rfl rfl)
theorem dX11_on_76 : decode cX11_on 76 = .ok (.iconst 2, 1) := dk_5 (dk_at dksX11_on_3 6 rfl rfl)
theorem dX11_on_77 : decode cX11_on 77 = .ok (.iconst 2, 1) := dk_5 (dk_at dksX11_on_3 7 rfl rfl)
theorem dX11_on_78 : decode cX11_on 78 = .ok (.iload_n 2, 1) := dk_28 (dk_at dksX11_on_3 8 rfl rfl)
theorem dX11_on_79 : decode cX11_on 79 = .ok (.imul, 1) := dk_104 (dk_at dksX11_on_3 9 rfl rfl)
theorem dX11_on_80 : decode cX11_on 80 = .ok (.iadd, 1) := dk_96 (dk_at dksX11_on_3 10 rfl rfl)
theorem dX11_on_81 : decode cX11_on 81 = .ok (.invokevirtual 765, 3) := dk_182 2 253 (dk_at dksX11_on_3 11 rfl rfl)
theorem dX11_on_84 : decode cX11_on 84 = .ok (.ldc_w 506, 3) := dk_19 1 250 (dk_at dksX11_on_3 14 rfl rfl)
theorem dX11_on_87 : decode cX11_on 87 = .ok (.if_icmp .ne 7, 3) := dk_160 0 7 (dk_at dksX11_on_3 17 rfl rfl)
theorem dX11_on_90 : decode cX11_on 90 = .ok (.iconst (-1), 1) := dk_2 (dk_at dksX11_on_3 20 rfl rfl)
theorem dX11_on_91 : decode cX11_on 91 = .ok (.goto 12, 3) := dk_167 0 12 (dk_at dksX11_on_3 21 rfl rfl)
theorem dX11_on_94 : decode cX11_on 94 = .ok (.aload_n 0, 1) := dk_42 (dk_at dksX11_on_4 0 rfl rfl)
theorem dX11_on_95 : decode cX11_on 95 = .ok (.iconst 2, 1) := dk_5 (dk_at dksX11_on_4 1 rfl rfl)
theorem dX11_on_96 : decode cX11_on 96 = .ok (.iconst 2, 1) := dk_5 (dk_at dksX11_on_4 2 rfl rfl)
theorem dX11_on_97 : decode cX11_on 97 = .ok (.iload_n 2, 1) := dk_28 (dk_at dksX11_on_4 3 rfl rfl)
theorem dX11_on_98 : decode cX11_on 98 = .ok (.imul, 1) := dk_104 (dk_at dksX11_on_4 4 rfl rfl)
theorem dX11_on_99 : decode cX11_on 99 = .ok (.iadd, 1) := dk_96 (dk_at dksX11_on_4 5 rfl rfl)
theorem dX11_on_100 : decode cX11_on 100 = .ok (.invokevirtual 765, 3) := dk_182 2 253 (dk_at dksX11_on_4 6 rfl rfl)
theorem dX11_on_103 : decode cX11_on 103 = .ok (.iastore, 1) := dk_79 (dk_at dksX11_on_4 9 rfl rfl)
theorem dX11_on_104 : decode cX11_on 104 = .ok (.iinc 2 1, 3) := dk_132 2 1 (dk_at dksX11_on_4 10 rfl rfl)
theorem dX11_on_107 : decode cX11_on 107 = .ok (.goto (-47), 3) := dk_167 255 209 (dk_at dksX11_on_4 13 rfl rfl)
theorem dX11_on_110 : decode cX11_on 110 = .ok (.iconst 0, 1) := dk_3 (dk_at dksX11_on_4 16 rfl rfl)
theorem dX11_on_111 : decode cX11_on 111 = .ok (.istore_n 2, 1) := dk_61 (dk_at dksX11_on_4 17 rfl rfl)
theorem dX11_on_112 : decode cX11_on 112 = .ok (.iload_n 2, 1) := dk_28 (dk_at dksX11_on_4 18 rfl rfl)
theorem dX11_on_113 : decode cX11_on 113 = .ok (.aload_n 0, 1) := dk_42 (dk_at dksX11_on_4 19 rfl rfl)
theorem dX11_on_114 : decode cX11_on 114 = .ok (.invokevirtual 360, 3) := dk_182 1 104 (dk_at dksX11_on_4 20 rfl rfl)
theorem dX11_on_117 : decode cX11_on 117 = .ok (.if_icmp .ge 52, 3) := dk_162 0 52 (dk_at dksX11_on_5 0 rfl rfl)
theorem dX11_on_120 : decode cX11_on 120 = .ok (.iconst 0, 1) := dk_3 (dk_at dksX11_on_5 3 rfl rfl)
theorem dX11_on_121 : decode cX11_on 121 = .ok (.istore_n 3, 1) := dk_62 (dk_at dksX11_on_5 4 rfl rfl)
theorem dX11_on_122 : decode cX11_on 122 = .ok (.iload_n 3, 1) := dk_29 (dk_at dksX11_on_5 5 rfl rfl)
theorem dX11_on_123 : decode cX11_on 123 = .ok (.aload_n 0, 1) := dk_42 (dk_at dksX11_on_5 6 rfl rfl)
theorem dX11_on_124 : decode cX11_on 124 = .ok (.invokevirtual 402, 3) := dk_182 1 146 (dk_at dksX11_on_5 7 rfl rfl)
theorem dX11_on_127 : decode cX11_on 127 = .ok (.if_icmp .ge 36, 3) := dk_162 0 36 (dk_at dksX11_on_5 10 rfl rfl)
theorem dX11_on_130 : decode cX11_on 130 = .ok (.aload_n 0, 1) := dk_42 (dk_at dksX11_on_5 13 rfl rfl)
theorem dX11_on_131 : decode cX11_on 131 = .ok (.sipush 128, 3) := dk_17 0 128 (dk_at dksX11_on_5 14 rfl rfl)
theorem dX11_on_134 : decode cX11_on 134 = .ok (.iload_n 2, 1) := dk_28 (dk_at dksX11_on_5 17 rfl rfl)
theorem dX11_on_135 : decode cX11_on 135 = .ok (.imul, 1) := dk_104 (dk_at dksX11_on_5 18 rfl rfl)
theorem dX11_on_136 : decode cX11_on 136 = .ok (.iload_n 3, 1) := dk_29 (dk_at dksX11_on_5 19 rfl rfl)
theorem dX11_on_137 : decode cX11_on 137 = .ok (.iadd, 1) := dk_96 (dk_at dksX11_on_5 20 rfl rfl)
theorem dX11_on_138 : decode cX11_on 138 = .ok (.aload_n 0, 1) := dk_42 (dk_at dksX11_on_5 21 rfl rfl)
theorem dX11_on_139 : decode cX11_on 139 = .ok (.getfield 7, 3) := dk_180 0 7 (dk_at dksX11_on_6 0 rfl rfl)
theorem dX11_on_142 : decode cX11_on 142 = .ok (.bipush 34, 2) := dk_16 34 (dk_at dksX11_on_6 3 rfl rfl)
theorem dX11_on_144 : decode cX11_on 144 = .ok (.aload_n 0, 1) := dk_42 (dk_at dksX11_on_6 5 rfl rfl)
theorem dX11_on_145 : decode cX11_on 145 = .ok (.invokevirtual 402, 3) := dk_182 1 146 (dk_at dksX11_on_6 6 rfl rfl)
theorem dX11_on_148 : decode cX11_on 148 = .ok (.iload_n 2, 1) := dk_28 (dk_at dksX11_on_6 9 rfl rfl)
theorem dX11_on_149 : decode cX11_on 149 = .ok (.imul, 1) := dk_104 (dk_at dksX11_on_6 10 rfl rfl)
theorem dX11_on_150 : decode cX11_on 150 = .ok (.iadd, 1) := dk_96 (dk_at dksX11_on_6 11 rfl rfl)
theorem dX11_on_151 : decode cX11_on 151 = .ok (.iload_n 3, 1) := dk_29 (dk_at dksX11_on_6 12 rfl rfl)
theorem dX11_on_152 : decode cX11_on 152 = .ok (.iadd, 1) := dk_96 (dk_at dksX11_on_6 13 rfl rfl)
theorem dX11_on_153 : decode cX11_on 153 = .ok (.iaload, 1) := dk_46 (dk_at dksX11_on_6 14 rfl rfl)
theorem dX11_on_154 : decode cX11_on 154 = .ok (.invokevirtual 393, 3) := dk_182 1 137 (dk_at dksX11_on_6 15 rfl rfl)
theorem dX11_on_157 : decode cX11_on 157 = .ok (.iinc 3 1, 3) := dk_132 3 1 (dk_at dksX11_on_6 18 rfl rfl)
theorem dX11_on_160 : decode cX11_on 160 = .ok (.goto (-38), 3) := dk_167 255 218 (dk_at dksX11_on_6 21 rfl rfl)
theorem dX11_on_163 : decode cX11_on 163 = .ok (.iinc 2 1, 3) := dk_132 2 1 (dk_at dksX11_on_7 0 rfl rfl)
theorem dX11_on_166 : decode cX11_on 166 = .ok (.goto (-54), 3) := dk_167 255 202 (dk_at dksX11_on_7 3 rfl rfl)
theorem dX11_on_169 : decode cX11_on 169 = .ok (.iconst 0, 1) := dk_3 (dk_at dksX11_on_7 6 rfl rfl)
theorem dX11_on_170 : decode cX11_on 170 = .ok (.istore_n 2, 1) := dk_61 (dk_at dksX11_on_7 7 rfl rfl)
theorem dX11_on_171 : decode cX11_on 171 = .ok (.iload_n 2, 1) := dk_28 (dk_at dksX11_on_7 8 rfl rfl)
theorem dX11_on_172 : decode cX11_on 172 = .ok (.aload_n 0, 1) := dk_42 (dk_at dksX11_on_7 9 rfl rfl)
theorem dX11_on_173 : decode cX11_on 173 = .ok (.invokevirtual 360, 3) := dk_182 1 104 (dk_at dksX11_on_7 10 rfl rfl)
theorem dX11_on_176 : decode cX11_on 176 = .ok (.if_icmp .ge 44, 3) := dk_162 0 44 (dk_at dksX11_on_7 13 rfl rfl)
theorem dX11_on_179 : decode cX11_on 179 = .ok (.aload_n 0, 1) := dk_42 (dk_at dksX11_on_7 16 rfl rfl)
theorem dX11_on_180 : decode cX11_on 180 = .ok (.iload_n 2, 1) := dk_28 (dk_at dksX11_on_7 17 rfl rfl)
theorem dX11_on_181 : decode cX11_on 181 = .ok (.invokevirtual 535, 3) := dk_182 2 23 (dk_at dksX11_on_7 18 rfl rfl)
theorem dX11_on_184 : decode cX11_on 184 = .ok (.ifCond .eq 30, 3) := dk_153 0 30 (dk_at dksX11_on_7 21 rfl rfl)
theorem dX11_on_187 : decode cX11_on 187 = .ok (.aload_n 0, 1) := dk_42 (dk_at dksX11_on_8 0 rfl rfl)
theorem dX11_on_188 : decode cX11_on 188 = .ok (.iload_n 2, 1) := dk_28 (dk_at dksX11_on_8 1 rfl rfl)
theorem dX11_on_189 : decode cX11_on 189 = .ok (.invokevirtual 497, 3) := dk_182 1 241 (dk_at dksX11_on_8 2 rfl rfl)
theorem dX11_on_192 : decode cX11_on 192 = .ok (.aload_n 0, 1) := dk_42 (dk_at dksX11_on_8 5 rfl rfl)
theorem dX11_on_193 : decode cX11_on 193 = .ok (.getfield 111, 3) := dk_180 0 111 (dk_at dksX11_on_8 6 rfl rfl)
theorem dX11_on_196 : decode cX11_on 196 = .ok (.bipush 8, 2) := dk_16 8 (dk_at dksX11_on_8 9 rfl rfl)
theorem dX11_on_198 : decode cX11_on 198 = .ok (.iaload, 1) := dk_46 (dk_at dksX11_on_8 11 rfl rfl)
theorem dX11_on_199 : decode cX11_on 199 = .ok (.if_icmp .le 15, 3) := dk_164 0 15 (dk_at dksX11_on_8 12 rfl rfl)
theorem dX11_on_202 : decode cX11_on 202 = .ok (.aload_n 0, 1) := dk_42 (dk_at dksX11_on_8 15 rfl rfl)
theorem dX11_on_203 : decode cX11_on 203 = .ok (.getfield 111, 3) := dk_180 0 111 (dk_at dksX11_on_8 16 rfl rfl)
theorem dX11_on_206 : decode cX11_on 206 = .ok (.bipush 8, 2) := dk_16 8 (dk_at dksX11_on_8 19 rfl rfl)
theorem dX11_on_208 : decode cX11_on 208 = .ok (.aload_n 0, 1) := dk_42 (dk_at dksX11_on_8 21 rfl rfl)
theorem dX11_on_209 : decode cX11_on 209 = .ok (.iload_n 2, 1) := dk_28 (dk_at dksX11_on_8 22 rfl rfl)
theorem dX11_on_210 : decode cX11_on 210 = .ok (.invokevirtual 497, 3) := dk_182 1 241 (dk_at dksX11_on_9 0 rfl rfl)
theorem dX11_on_213 : decode cX11_on 213 = .ok (.iastore, 1) := dk_79 (dk_at dksX11_on_9 3 rfl rfl)
theorem dX11_on_214 : decode cX11_on 214 = .ok (.iinc 2 1, 3) := dk_132 2 1 (dk_at dksX11_on_9 4 rfl rfl)
theorem dX11_on_217 : decode cX11_on 217 = .ok (.goto (-46), 3) := dk_167 255 210 (dk_at dksX11_on_9 7 rfl rfl)
theorem dX11_on_220 : decode cX11_on 220 = .ok (.aload_n 0, 1) := dk_42 (dk_at dksX11_on_9 10 rfl rfl)
theorem dX11_on_221 : decode cX11_on 221 = .ok (.invokevirtual 564, 3) := dk_182 2 52 (dk_at dksX11_on_9 11 rfl rfl)
theorem dX11_on_224 : decode cX11_on 224 = .ok (.aload_n 0, 1) := dk_42 (dk_at dksX11_on_9 14 rfl rfl)
theorem dX11_on_225 : decode cX11_on 225 = .ok (.getfield 111, 3) := dk_180 0 111 (dk_at dksX11_on_9 15 rfl rfl)
theorem dX11_on_228 : decode cX11_on 228 = .ok (.sipush 2244, 3) := dk_17 8 196 (dk_at dksX11_on_9 18 rfl rfl)
theorem dX11_on_231 : decode cX11_on 231 = .ok (.iconst 0, 1) := dk_3 (dk_at dksX11_on_9 21 rfl rfl)
theorem dX11_on_232 : decode cX11_on 232 = .ok (.iastore, 1) := dk_79 (dk_at dksX11_on_9 22 rfl rfl)
theorem dX11_on_233 : decode cX11_on 233 = .ok (.aload_n 0, 1) := dk_42 (dk_at dksX11_on_9 23 rfl rfl)
theorem dX11_on_234 : decode cX11_on 234 = .ok (.iconst 0, 1) := dk_3 (dk_at dksX11_on_10 0 rfl rfl)
theorem dX11_on_235 : decode cX11_on 235 = .ok (.putfield 347, 3) := dk_181 1 91 (dk_at dksX11_on_10 1 rfl rfl)
theorem dX11_on_238 : decode cX11_on 238 = .ok (.iconst 1, 1) := dk_4 (dk_at dksX11_on_10 4 rfl rfl)
theorem dX11_on_239 : decode cX11_on 239 = .ok (.ireturn, 1) := dk_172 (dk_at dksX11_on_10 5 rfl rfl)
abbrev cX11_isImage : ByteArray := prog_26_method_159_code
def yX11_isImage : MethodName := ⟨RX11, "isImage", "(I)Z"⟩
def dkwX11_isImage_3 : List UInt8 := [28, 104, 96, 182, 2, 253, 19, 1, 250, 159, 0, 5, 3, 172, 132, 2, 1, 167, 255, 215, 4, 172]
abbrev dktX11_isImage_3 : List UInt8 := dkwX11_isImage_3 ++ []
def dkwX11_isImage_2 : List UInt8 := [28, 16, 16, 162, 0, 41, 42, 5, 5, 28, 104, 96, 182, 2, 253, 17, 3, 231, 164, 0, 20, 42, 5, 5]
abbrev dktX11_isImage_2 : List UInt8 := dkwX11_isImage_2 ++ dktX11_isImage_3
def dkwX11_isImage_1 : List UInt8 := [180, 0, 7, 27, 4, 100, 46, 42, 180, 0, 7, 27, 4, 100, 184, 2, 249, 159, 0, 5, 3, 172, 3, 61]
abbrev dktX11_isImage_1 : List UInt8 := dkwX11_isImage_1 ++ dktX11_isImage_2
def dkwX11_isImage_0 : List UInt8 := [42, 180, 1, 84, 153, 0, 40, 27, 16, 35, 42, 182, 1, 104, 42, 182, 1, 146, 104, 96, 160, 0, 24, 42]
abbrev dktX11_isImage_0 : List UInt8 := dkwX11_isImage_0 ++ dktX11_isImage_1
theorem dksX11_isImage_0 : cX11_isImage.data.toList.drop 0 = dktX11_isImage_0 := by decide +kernel
theorem dksX11_isImage_1 : cX11_isImage.data.toList.drop 24 = dktX11_isImage_1 := dk_seg dksX11_isImage_0 24 rfl rfl
theorem dksX11_isImage_2 : cX11_isImage.data.toList.drop 48 = dktX11_isImage_2 := dk_seg dksX11_isImage_1 24 rfl rfl
theorem dksX11_isImage_3 : cX11_isImage.data.toList.drop 72 = dktX11_isImage_3 := dk_seg dksX11_isImage_2 24 rfl rfl
theorem dX11_isImage_0 : decode cX11_isImage 0 = .ok (.aload_n 0, 1) := dk_42 (dk_at dksX11_isImage_0 0 rfl rfl)
theorem dX11_isImage_1 : decode cX11_isImage 1 = .ok (.getfield 340, 3) := dk_180 1 84 (dk_at dksX11_isImage_0 1 rfl rfl)
theorem dX11_isImage_4 : decode cX11_isImage 4 = .ok (.ifCond .eq 40, 3) := dk_153 0 40 (dk_at dksX11_isImage_0 4 rfl rfl)
theorem dX11_isImage_7 : decode cX11_isImage 7 = .ok (.iload_n 1, 1) := dk_27 (dk_at dksX11_isImage_0 7 rfl rfl)
theorem dX11_isImage_8 : decode cX11_isImage 8 = .ok (.bipush 35, 2) := dk_16 35 (dk_at dksX11_isImage_0 8 rfl rfl)
theorem dX11_isImage_10 : decode cX11_isImage 10 = .ok (.aload_n 0, 1) := dk_42 (dk_at dksX11_isImage_0 10 rfl rfl)
theorem dX11_isImage_11 : decode cX11_isImage 11 = .ok (.invokevirtual 360, 3) := dk_182 1 104 (dk_at dksX11_isImage_0 11 rfl rfl)
theorem dX11_isImage_14 : decode cX11_isImage 14 = .ok (.aload_n 0, 1) := dk_42 (dk_at dksX11_isImage_0 14 rfl rfl)
theorem dX11_isImage_15 : decode cX11_isImage 15 = .ok (.invokevirtual 402, 3) := dk_182 1 146 (dk_at dksX11_isImage_0 15 rfl rfl)
theorem dX11_isImage_18 : decode cX11_isImage 18 = .ok (.imul, 1) := dk_104 (dk_at dksX11_isImage_0 18 rfl rfl)
theorem dX11_isImage_19 : decode cX11_isImage 19 = .ok (.iadd, 1) := dk_96 (dk_at dksX11_isImage_0 19 rfl rfl)
theorem dX11_isImage_20 : decode cX11_isImage 20 = .ok (.if_icmp .ne 24, 3) := dk_160 0 24 (dk_at dksX11_isImage_0 20 rfl rfl)
theorem dX11_isImage_23 : decode cX11_isImage 23 = .ok (.aload_n 0, 1) := dk_42 (dk_at dksX11_isImage_0 23 rfl rfl)
theorem dX11_isImage_24 : decode cX11_isImage 24 = .ok (.getfield 7, 3) := dk_180 0 7 (dk_at dksX11_isImage_1 0 rfl rfl)
theorem dX11_isImage_27 : decode cX11_isImage 27 = .ok (.iload_n 1, 1) := dk_27 (dk_at dksX11_isImage_1 3 rfl rfl)
theorem dX11_isImage_28 : decode cX11_isImage 28 = .ok (.iconst 1, 1) := dk_4 (dk_at dksX11_isImage_1 4 rfl rfl)
theorem dX11_isImage_29 : decode cX11_isImage 29 = .ok (.isub, 1) := dk_100 (dk_at dksX11_isImage_1 5 rfl rfl)
theorem dX11_isImage_30 : decode cX11_isImage 30 = .ok (.iaload, 1) := dk_46 (dk_at dksX11_isImage_1 6 rfl rfl)
theorem dX11_isImage_31 : decode cX11_isImage 31 = .ok (.aload_n 0, 1) := dk_42 (dk_at dksX11_isImage_1 7 rfl rfl)
theorem dX11_isImage_32 : decode cX11_isImage 32 = .ok (.getfield 7, 3) := dk_180 0 7 (dk_at dksX11_isImage_1 8 rfl rfl)
theorem dX11_isImage_35 : decode cX11_isImage 35 = .ok (.iload_n 1, 1) := dk_27 (dk_at dksX11_isImage_1 11 rfl rfl)
theorem dX11_isImage_36 : decode cX11_isImage 36 = .ok (.iconst 1, 1) := dk_4 (dk_at dksX11_isImage_1 12 rfl rfl)
theorem dX11_isImage_37 : decode cX11_isImage 37 = .ok (.isub, 1) := dk_100 (dk_at dksX11_isImage_1 13 rfl rfl)
theorem dX11_isImage_38 : decode cX11_isImage 38 = .ok (.invokestatic 761, 3) := dk_184 2 249 (dk_at dksX11_isImage_1 14 rfl rfl)
theorem dX11_isImage_41 : decode cX11_isImage 41 = .ok (.if_icmp .eq 5, 3) := dk_159 0 5 (dk_at dksX11_isImage_1 17 rfl rfl)
theorem dX11_isImage_44 : decode cX11_isImage 44 = .ok (.iconst 0, 1) := dk_3 (dk_at dksX11_isImage_1 20 rfl rfl)
theorem dX11_isImage_45 : decode cX11_isImage 45 = .ok (.ireturn, 1) := dk_172 (dk_at dksX11_isImage_1 21 rfl rfl)
theorem dX11_isImage_46 : decode cX11_isImage 46 = .ok (.iconst 0, 1) := dk_3 (dk_at dksX11_isImage_1 22 rfl rfl)
theorem dX11_isImage_47 : decode cX11_isImage 47 = .ok (.istore_n 2, 1) := dk_61 (dk_at dksX11_isImage_1 23 rfl rfl)
theorem dX11_isImage_48 : decode cX11_isImage 48 = .ok (.iload_n 2, 1) := dk_28 (dk_at dksX11_isImage_2 0 rfl rfl)
theorem dX11_isImage_49 : decode cX11_isImage 49 = .ok (.bipush 16, 2) := dk_16 16 (dk_at dksX11_isImage_2 1 rfl rfl)
theorem dX11_isImage_51 : decode cX11_isImage 51 = .ok (.if_icmp .ge 41, 3) := dk_162 0 41 (dk_at dksX11_isImage_2 3 rfl rfl)
theorem dX11_isImage_54 : decode cX11_isImage 54 = .ok (.aload_n 0, 1) := dk_42 (dk_at dksX11_isImage_2 6 rfl rfl)
theorem dX11_isImage_55 : decode cX11_isImage 55 = .ok (.iconst 2, 1) := dk_5 (dk_at dksX11_isImage_2 7 rfl rfl)
theorem dX11_isImage_56 : decode cX11_isImage 56 = .ok (.iconst 2, 1) := dk_5 (dk_at dksX11_isImage_2 8 rfl rfl)
theorem dX11_isImage_57 : decode cX11_isImage 57 = .ok (.iload_n 2, 1) := dk_28 (dk_at dksX11_isImage_2 9 rfl rfl)
theorem dX11_isImage_58 : decode cX11_isImage 58 = .ok (.imul, 1) := dk_104 (dk_at dksX11_isImage_2 10 rfl rfl)
theorem dX11_isImage_59 : decode cX11_isImage 59 = .ok (.iadd, 1) := dk_96 (dk_at dksX11_isImage_2 11 rfl rfl)
theorem dX11_isImage_60 : decode cX11_isImage 60 = .ok (.invokevirtual 765, 3) := dk_182 2 253 (dk_at dksX11_isImage_2 12 rfl rfl)
theorem dX11_isImage_63 : decode cX11_isImage 63 = .ok (.sipush 999, 3) := dk_17 3 231 (dk_at dksX11_isImage_2 15 rfl rfl)
theorem dX11_isImage_66 : decode cX11_isImage 66 = .ok (.if_icmp .le 20, 3) := dk_164 0 20 (dk_at dksX11_isImage_2 18 rfl rfl)
theorem dX11_isImage_69 : decode cX11_isImage 69 = .ok (.aload_n 0, 1) := dk_42 (dk_at dksX11_isImage_2 21 rfl rfl)
theorem dX11_isImage_70 : decode cX11_isImage 70 = .ok (.iconst 2, 1) := dk_5 (dk_at dksX11_isImage_2 22 rfl rfl)
theorem dX11_isImage_71 : decode cX11_isImage 71 = .ok (.iconst 2, 1) := dk_5 (dk_at dksX11_isImage_2 23 rfl rfl)
theorem dX11_isImage_72 : decode cX11_isImage 72 = .ok (.iload_n 2, 1) := dk_28 (dk_at dksX11_isImage_3 0 rfl rfl)
theorem dX11_isImage_73 : decode cX11_isImage 73 = .ok (.imul, 1) := dk_104 (dk_at dksX11_isImage_3 1 rfl rfl)
theorem dX11_isImage_74 : decode cX11_isImage 74 = .ok (.iadd, 1) := dk_96 (dk_at dksX11_isImage_3 2 rfl rfl)
theorem dX11_isImage_75 : decode cX11_isImage 75 = .ok (.invokevirtual 765, 3) := dk_182 2 253 (dk_at dksX11_isImage_3 3 rfl rfl)
theorem dX11_isImage_78 : decode cX11_isImage 78 = .ok (.ldc_w 506, 3) := dk_19 1 250 (dk_at dksX11_isImage_3 6 rfl rfl)
theorem dX11_isImage_81 : decode cX11_isImage 81 = .ok (.if_icmp .eq 5, 3) := dk_159 0 5 (dk_at dksX11_isImage_3 9 rfl rfl)
theorem dX11_isImage_84 : decode cX11_isImage 84 = .ok (.iconst 0, 1) := dk_3 (dk_at dksX11_isImage_3 12 rfl rfl)
theorem dX11_isImage_85 : decode cX11_isImage 85 = .ok (.ireturn, 1) := dk_172 (dk_at dksX11_isImage_3 13 rfl rfl)
theorem dX11_isImage_86 : decode cX11_isImage 86 = .ok (.iinc 2 1, 3) := dk_132 2 1 (dk_at dksX11_isImage_3 14 rfl rfl)
theorem dX11_isImage_89 : decode cX11_isImage 89 = .ok (.goto (-41), 3) := dk_167 255 215 (dk_at dksX11_isImage_3 17 rfl rfl)
theorem dX11_isImage_92 : decode cX11_isImage 92 = .ok (.iconst 1, 1) := dk_4 (dk_at dksX11_isImage_3 20 rfl rfl)
theorem dX11_isImage_93 : decode cX11_isImage 93 = .ok (.ireturn, 1) := dk_172 (dk_at dksX11_isImage_3 21 rfl rfl)
abbrev cX11_twoAt : ByteArray := prog_26_method_155_code
def yX11_twoAt : MethodName := ⟨RX11, "twoAt", "(I)I"⟩
def dkwX11_twoAt_0 : List UInt8 := [17, 1, 0, 42, 180, 0, 7, 27, 46, 104, 42, 180, 0, 7, 27, 4, 96, 46, 96, 172]
abbrev dktX11_twoAt_0 : List UInt8 := dkwX11_twoAt_0 ++ []
theorem dksX11_twoAt_0 : cX11_twoAt.data.toList.drop 0 = dktX11_twoAt_0 := by decide +kernel
theorem dX11_twoAt_0 : decode cX11_twoAt 0 = .ok (.sipush 256, 3) := dk_17 1 0 (dk_at dksX11_twoAt_0 0 rfl rfl)
theorem dX11_twoAt_3 : decode cX11_twoAt 3 = .ok (.aload_n 0, 1) := dk_42 (dk_at dksX11_twoAt_0 3 rfl rfl)
theorem dX11_twoAt_4 : decode cX11_twoAt 4 = .ok (.getfield 7, 3) := dk_180 0 7 (dk_at dksX11_twoAt_0 4 rfl rfl)
theorem dX11_twoAt_7 : decode cX11_twoAt 7 = .ok (.iload_n 1, 1) := dk_27 (dk_at dksX11_twoAt_0 7 rfl rfl)
theorem dX11_twoAt_8 : decode cX11_twoAt 8 = .ok (.iaload, 1) := dk_46 (dk_at dksX11_twoAt_0 8 rfl rfl)
theorem dX11_twoAt_9 : decode cX11_twoAt 9 = .ok (.imul, 1) := dk_104 (dk_at dksX11_twoAt_0 9 rfl rfl)
theorem dX11_twoAt_10 : decode cX11_twoAt 10 = .ok (.aload_n 0, 1) := dk_42 (dk_at dksX11_twoAt_0 10 rfl rfl)
theorem dX11_twoAt_11 : decode cX11_twoAt 11 = .ok (.getfield 7, 3) := dk_180 0 7 (dk_at dksX11_twoAt_0 11 rfl rfl)
theorem dX11_twoAt_14 : decode cX11_twoAt 14 = .ok (.iload_n 1, 1) := dk_27 (dk_at dksX11_twoAt_0 14 rfl rfl)
theorem dX11_twoAt_15 : decode cX11_twoAt 15 = .ok (.iconst 1, 1) := dk_4 (dk_at dksX11_twoAt_0 15 rfl rfl)
theorem dX11_twoAt_16 : decode cX11_twoAt 16 = .ok (.iadd, 1) := dk_96 (dk_at dksX11_twoAt_0 16 rfl rfl)
theorem dX11_twoAt_17 : decode cX11_twoAt 17 = .ok (.iaload, 1) := dk_46 (dk_at dksX11_twoAt_0 17 rfl rfl)
theorem dX11_twoAt_18 : decode cX11_twoAt 18 = .ok (.iadd, 1) := dk_96 (dk_at dksX11_twoAt_0 18 rfl rfl)
theorem dX11_twoAt_19 : decode cX11_twoAt 19 = .ok (.ireturn, 1) := dk_172 (dk_at dksX11_twoAt_0 19 rfl rfl)
theorem q213 : (Jvm.Cond.initialized "GroupJournalModel") ∈ lw_all := lw_g (lw_at lw_m1 26 rfl) rfl
theorem q1297 : (Jvm.Cond.selects "GroupJournalModel" ({ cls := "java/lang/Object", name := "getClass", desc := "()Ljava/lang/Class;" } : Jvm.MethodName) ({ cls := "java/lang/Object", name := "getClass", desc := "()Ljava/lang/Class;" } : Jvm.MethodName)) ∈ lw_all := lw_g (lw_at lw_m5 150 rfl) rfl
theorem q1681 : (Jvm.Cond.selects "GroupJournalModel" ({ cls := "java/lang/Object", name := "hashCode", desc := "()I" } : Jvm.MethodName) ({ cls := "java/lang/Object", name := "hashCode", desc := "()I" } : Jvm.MethodName)) ∈ lw_all := lw_g (lw_at lw_m7 54 rfl) rfl
theorem q1731 : (Jvm.Cond.selects "GroupJournalModel" ({ cls := "java/lang/Object", name := "equals", desc := "(Ljava/lang/Object;)Z" } : Jvm.MethodName) ({ cls := "java/lang/Object", name := "equals", desc := "(Ljava/lang/Object;)Z" } : Jvm.MethodName)) ∈ lw_all := lw_g (lw_at lw_m7 104 rfl) rfl
theorem q3141 : (Jvm.Cond.instantiable "GroupJournalModel" (110 : Nat)) ∈ lw_all := lw_g (lw_at lw_m13 74 rfl) rfl
theorem q3143 : (Jvm.Cond.instanceMethod ({ cls := "GroupJournalModel", name := "<init>", desc := "()V" } : Jvm.MethodName)) ∈ lw_all := lw_g (lw_at lw_m13 76 rfl) rfl
theorem q3144 : (Jvm.Cond.code ({ cls := "GroupJournalModel", name := "<init>", desc := "()V" } : Jvm.MethodName) prog_26_method_1_code (1 : Nat) (Option.none : Option Jvm.ClassFile.FieldType)) ∈ lw_all := lw_g (lw_at lw_m13 77 rfl) rfl
theorem q3145 : (Jvm.Cond.methodLink "GroupJournalModel" (1 : Nat) ({ cls := "java/lang/Object", name := "<init>", desc := "()V" } : Jvm.MethodName)) ∈ lw_all := lw_g (lw_at lw_m13 78 rfl) rfl
theorem q3146 : (Jvm.Cond.constant "GroupJournalModel" (142 : Nat) (47300 : Int32)) ∈ lw_all := lw_g (lw_at lw_m13 79 rfl) rfl
theorem q3147 : (Jvm.Cond.fieldLink "GroupJournalModel" (7 : Nat) "GroupJournalModel" "tape" "[I") ∈ lw_all := lw_g (lw_at lw_m13 80 rfl) rfl
theorem q3148 : (Jvm.Cond.fieldLink "GroupJournalModel" (229 : Nat) "GroupJournalModel" "taped" "I") ∈ lw_all := lw_g (lw_at lw_m13 81 rfl) rfl
theorem q3149 : (Jvm.Cond.fieldLink "GroupJournalModel" (238 : Nat) "GroupJournalModel" "at" "I") ∈ lw_all := lw_g (lw_at lw_m13 82 rfl) rfl
theorem q3150 : (Jvm.Cond.fieldLink "GroupJournalModel" (241 : Nat) "GroupJournalModel" "end" "I") ∈ lw_all := lw_g (lw_at lw_m13 83 rfl) rfl
theorem q3151 : (Jvm.Cond.fieldLink "GroupJournalModel" (252 : Nat) "GroupJournalModel" "ended" "I") ∈ lw_all := lw_g (lw_at lw_m13 84 rfl) rfl
theorem q3152 : (Jvm.Cond.fieldLink "GroupJournalModel" (232 : Nat) "GroupJournalModel" "bad" "I") ∈ lw_all := lw_g (lw_at lw_m13 85 rfl) rfl
theorem q3153 : (Jvm.Cond.fieldLink "GroupJournalModel" (235 : Nat) "GroupJournalModel" "badPlace" "I") ∈ lw_all := lw_g (lw_at lw_m13 86 rfl) rfl
theorem q3154 : (Jvm.Cond.fieldLink "GroupJournalModel" (330 : Nat) "GroupJournalModel" "fault" "I") ∈ lw_all := lw_g (lw_at lw_m13 87 rfl) rfl
theorem q3155 : (Jvm.Cond.fieldLink "GroupJournalModel" (13 : Nat) "GroupJournalModel" "faultPlace" "I") ∈ lw_all := lw_g (lw_at lw_m13 88 rfl) rfl
theorem q3156 : (Jvm.Cond.fieldLink "GroupJournalModel" (17 : Nat) "GroupJournalModel" "refused" "[I") ∈ lw_all := lw_g (lw_at lw_m13 89 rfl) rfl
theorem q3157 : (Jvm.Cond.fieldLink "GroupJournalModel" (272 : Nat) "GroupJournalModel" "numberPlace" "I") ∈ lw_all := lw_g (lw_at lw_m13 90 rfl) rfl
theorem q3158 : (Jvm.Cond.fieldLink "GroupJournalModel" (20 : Nat) "GroupJournalModel" "journalWord" "[C") ∈ lw_all := lw_g (lw_at lw_m13 91 rfl) rfl
theorem q3159 : (Jvm.Cond.fieldLink "GroupJournalModel" (24 : Nat) "GroupJournalModel" "blocksWord" "[C") ∈ lw_all := lw_g (lw_at lw_m13 92 rfl) rfl
theorem q3160 : (Jvm.Cond.fieldLink "GroupJournalModel" (27 : Nat) "GroupJournalModel" "bytesWord" "[C") ∈ lw_all := lw_g (lw_at lw_m13 93 rfl) rfl
theorem q3161 : (Jvm.Cond.fieldLink "GroupJournalModel" (30 : Nat) "GroupJournalModel" "putWord" "[C") ∈ lw_all := lw_g (lw_at lw_m13 94 rfl) rfl
theorem q3162 : (Jvm.Cond.fieldLink "GroupJournalModel" (33 : Nat) "GroupJournalModel" "sizeWord" "[C") ∈ lw_all := lw_g (lw_at lw_m13 95 rfl) rfl
theorem q3163 : (Jvm.Cond.fieldLink "GroupJournalModel" (36 : Nat) "GroupJournalModel" "closesWord" "[C") ∈ lw_all := lw_g (lw_at lw_m13 96 rfl) rfl
theorem q3164 : (Jvm.Cond.fieldLink "GroupJournalModel" (39 : Nat) "GroupJournalModel" "takesWord" "[C") ∈ lw_all := lw_g (lw_at lw_m13 97 rfl) rfl
theorem q3165 : (Jvm.Cond.fieldLink "GroupJournalModel" (42 : Nat) "GroupJournalModel" "noiseWord" "[C") ∈ lw_all := lw_g (lw_at lw_m13 98 rfl) rfl
theorem q3166 : (Jvm.Cond.fieldLink "GroupJournalModel" (45 : Nat) "GroupJournalModel" "tickWord" "[C") ∈ lw_all := lw_g (lw_at lw_m13 99 rfl) rfl
theorem q3167 : (Jvm.Cond.fieldLink "GroupJournalModel" (48 : Nat) "GroupJournalModel" "recordsWord" "[C") ∈ lw_all := lw_g (lw_at lw_m13 100 rfl) rfl
theorem q3168 : (Jvm.Cond.fieldLink "GroupJournalModel" (51 : Nat) "GroupJournalModel" "payloadWord" "[C") ∈ lw_all := lw_g (lw_at lw_m13 101 rfl) rfl
theorem q3169 : (Jvm.Cond.fieldLink "GroupJournalModel" (54 : Nat) "GroupJournalModel" "ageWord" "[C") ∈ lw_all := lw_g (lw_at lw_m13 102 rfl) rfl
theorem q3170 : (Jvm.Cond.fieldLink "GroupJournalModel" (57 : Nat) "GroupJournalModel" "waitersWord" "[C") ∈ lw_all := lw_g (lw_at lw_m13 103 rfl) rfl
theorem q3171 : (Jvm.Cond.fieldLink "GroupJournalModel" (60 : Nat) "GroupJournalModel" "numberWord" "[C") ∈ lw_all := lw_g (lw_at lw_m13 104 rfl) rfl
theorem q3172 : (Jvm.Cond.fieldLink "GroupJournalModel" (63 : Nat) "GroupJournalModel" "serialWord" "[C") ∈ lw_all := lw_g (lw_at lw_m13 105 rfl) rfl
theorem q3173 : (Jvm.Cond.fieldLink "GroupJournalModel" (66 : Nat) "GroupJournalModel" "firstWord" "[C") ∈ lw_all := lw_g (lw_at lw_m13 106 rfl) rfl
theorem q3174 : (Jvm.Cond.fieldLink "GroupJournalModel" (69 : Nat) "GroupJournalModel" "framesWord" "[C") ∈ lw_all := lw_g (lw_at lw_m13 107 rfl) rfl
theorem q3175 : (Jvm.Cond.fieldLink "GroupJournalModel" (72 : Nat) "GroupJournalModel" "octetWord" "[C") ∈ lw_all := lw_g (lw_at lw_m13 108 rfl) rfl
theorem q3176 : (Jvm.Cond.fieldLink "GroupJournalModel" (75 : Nat) "GroupJournalModel" "valueWord" "[C") ∈ lw_all := lw_g (lw_at lw_m13 109 rfl) rfl
theorem q3177 : (Jvm.Cond.fieldLink "GroupJournalModel" (78 : Nat) "GroupJournalModel" "orWord" "[C") ∈ lw_all := lw_g (lw_at lw_m13 110 rfl) rfl
theorem q3178 : (Jvm.Cond.fieldLink "GroupJournalModel" (81 : Nat) "GroupJournalModel" "andWord" "[C") ∈ lw_all := lw_g (lw_at lw_m13 111 rfl) rfl
theorem q3179 : (Jvm.Cond.fieldLink "GroupJournalModel" (84 : Nat) "GroupJournalModel" "notWord" "[C") ∈ lw_all := lw_g (lw_at lw_m13 112 rfl) rfl
theorem q3180 : (Jvm.Cond.fieldLink "GroupJournalModel" (87 : Nat) "GroupJournalModel" "allWord" "[C") ∈ lw_all := lw_g (lw_at lw_m13 113 rfl) rfl
theorem q3181 : (Jvm.Cond.fieldLink "GroupJournalModel" (90 : Nat) "GroupJournalModel" "minWord" "[C") ∈ lw_all := lw_g (lw_at lw_m13 114 rfl) rfl
theorem q3182 : (Jvm.Cond.fieldLink "GroupJournalModel" (93 : Nat) "GroupJournalModel" "maxWord" "[C") ∈ lw_all := lw_g (lw_at lw_m13 115 rfl) rfl
theorem q3183 : (Jvm.Cond.fieldLink "GroupJournalModel" (96 : Nat) "GroupJournalModel" "many" "[I") ∈ lw_all := lw_g (lw_at lw_m13 116 rfl) rfl
theorem q3184 : (Jvm.Cond.fieldLink "GroupJournalModel" (99 : Nat) "GroupJournalModel" "puts" "[I") ∈ lw_all := lw_g (lw_at lw_m13 117 rfl) rfl
theorem q3185 : (Jvm.Cond.fieldLink "GroupJournalModel" (102 : Nat) "GroupJournalModel" "codeFrom" "[I") ∈ lw_all := lw_g (lw_at lw_m13 118 rfl) rfl
theorem q3186 : (Jvm.Cond.fieldLink "GroupJournalModel" (105 : Nat) "GroupJournalModel" "codeEnd" "[I") ∈ lw_all := lw_g (lw_at lw_m13 119 rfl) rfl
theorem q3187 : (Jvm.Cond.fieldLink "GroupJournalModel" (108 : Nat) "GroupJournalModel" "codes" "[I") ∈ lw_all := lw_g (lw_at lw_m13 120 rfl) rfl
theorem q3188 : (Jvm.Cond.fieldLink "GroupJournalModel" (312 : Nat) "GroupJournalModel" "coded" "I") ∈ lw_all := lw_g (lw_at lw_m13 121 rfl) rfl
theorem q3189 : (Jvm.Cond.fieldLink "GroupJournalModel" (315 : Nat) "GroupJournalModel" "statements" "I") ∈ lw_all := lw_g (lw_at lw_m13 122 rfl) rfl
theorem q3190 : (Jvm.Cond.fieldLink "GroupJournalModel" (340 : Nat) "GroupJournalModel" "isTold" "Z") ∈ lw_all := lw_g (lw_at lw_m13 123 rfl) rfl
theorem q3191 : (Jvm.Cond.fieldLink "GroupJournalModel" (279 : Nat) "GroupJournalModel" "textKind" "I") ∈ lw_all := lw_g (lw_at lw_m13 124 rfl) rfl
theorem q3192 : (Jvm.Cond.fieldLink "GroupJournalModel" (111 : Nat) "GroupJournalModel" "now" "[I") ∈ lw_all := lw_g (lw_at lw_m13 125 rfl) rfl
theorem q3193 : (Jvm.Cond.fieldLink "GroupJournalModel" (436 : Nat) "GroupJournalModel" "askRecords" "I") ∈ lw_all := lw_g (lw_at lw_m13 126 rfl) rfl
theorem q3194 : (Jvm.Cond.fieldLink "GroupJournalModel" (439 : Nat) "GroupJournalModel" "askPayload" "I") ∈ lw_all := lw_g (lw_at lw_m13 127 rfl) rfl
theorem q3195 : (Jvm.Cond.fieldLink "GroupJournalModel" (722 : Nat) "GroupJournalModel" "askSegment" "I") ∈ lw_all := lw_g (lw_at lw_m13 128 rfl) rfl
theorem q3196 : (Jvm.Cond.fieldLink "GroupJournalModel" (114 : Nat) "GroupJournalModel" "framed" "[I") ∈ lw_all := lw_g (lw_at lw_m13 129 rfl) rfl
theorem q3197 : (Jvm.Cond.fieldLink "GroupJournalModel" (411 : Nat) "GroupJournalModel" "framedMany" "I") ∈ lw_all := lw_g (lw_at lw_m13 130 rfl) rfl
theorem q3198 : (Jvm.Cond.fieldLink "GroupJournalModel" (117 : Nat) "GroupJournalModel" "tried" "[I") ∈ lw_all := lw_g (lw_at lw_m13 131 rfl) rfl
theorem q3199 : (Jvm.Cond.fieldLink "GroupJournalModel" (120 : Nat) "GroupJournalModel" "ruleNow" "I") ∈ lw_all := lw_g (lw_at lw_m13 132 rfl) rfl
theorem q3200 : (Jvm.Cond.fieldLink "GroupJournalModel" (464 : Nat) "GroupJournalModel" "releasedMany" "I") ∈ lw_all := lw_g (lw_at lw_m13 133 rfl) rfl
theorem q3201 : (Jvm.Cond.fieldLink "GroupJournalModel" (482 : Nat) "GroupJournalModel" "waitedMany" "I") ∈ lw_all := lw_g (lw_at lw_m13 134 rfl) rfl
theorem q3202 : (Jvm.Cond.fieldLink "GroupJournalModel" (473 : Nat) "GroupJournalModel" "ticked" "I") ∈ lw_all := lw_g (lw_at lw_m13 135 rfl) rfl
theorem q3203 : (Jvm.Cond.fieldLink "GroupJournalModel" (467 : Nat) "GroupJournalModel" "isThought" "Z") ∈ lw_all := lw_g (lw_at lw_m13 136 rfl) rfl
theorem q3204 : (Jvm.Cond.fieldLink "GroupJournalModel" (123 : Nat) "GroupJournalModel" "aside" "[I") ∈ lw_all := lw_g (lw_at lw_m13 137 rfl) rfl
theorem q3205 : (Jvm.Cond.fieldLink "GroupJournalModel" (126 : Nat) "GroupJournalModel" "frameRow" "[I") ∈ lw_all := lw_g (lw_at lw_m13 138 rfl) rfl
theorem q3206 : (Jvm.Cond.fieldLink "GroupJournalModel" (513 : Nat) "GroupJournalModel" "frameMany" "I") ∈ lw_all := lw_g (lw_at lw_m13 139 rfl) rfl
theorem q3207 : (Jvm.Cond.fieldLink "GroupJournalModel" (516 : Nat) "GroupJournalModel" "walkEnd" "I") ∈ lw_all := lw_g (lw_at lw_m13 140 rfl) rfl
theorem q3208 : (Jvm.Cond.fieldLink "GroupJournalModel" (519 : Nat) "GroupJournalModel" "walkStop" "I") ∈ lw_all := lw_g (lw_at lw_m13 141 rfl) rfl
theorem q3209 : (Jvm.Cond.fieldLink "GroupJournalModel" (510 : Nat) "GroupJournalModel" "walkNumber" "I") ∈ lw_all := lw_g (lw_at lw_m13 142 rfl) rfl
theorem q3210 : (Jvm.Cond.fieldLink "GroupJournalModel" (500 : Nat) "GroupJournalModel" "walkBytes" "I") ∈ lw_all := lw_g (lw_at lw_m13 143 rfl) rfl
theorem q3211 : (Jvm.Cond.fieldLink "GroupJournalModel" (503 : Nat) "GroupJournalModel" "walkHead" "I") ∈ lw_all := lw_g (lw_at lw_m13 144 rfl) rfl
theorem q3212 : (Jvm.Cond.fieldLink "GroupJournalModel" (507 : Nat) "GroupJournalModel" "isRecovering" "Z") ∈ lw_all := lw_g (lw_at lw_m13 145 rfl) rfl
theorem q3213 : (Jvm.Cond.fieldLink "GroupJournalModel" (350 : Nat) "GroupJournalModel" "rowMany" "I") ∈ lw_all := lw_g (lw_at lw_m13 146 rfl) rfl
theorem q3214 : (Jvm.Cond.fieldLink "GroupJournalModel" (129 : Nat) "GroupJournalModel" "rows" "[I") ∈ lw_all := lw_g (lw_at lw_m13 147 rfl) rfl
theorem q3215 : (Jvm.Cond.fieldLink "GroupJournalModel" (132 : Nat) "GroupJournalModel" "fitting" "[Z") ∈ lw_all := lw_g (lw_at lw_m13 148 rfl) rfl
theorem q3216 : (Jvm.Cond.fieldLink "GroupJournalModel" (622 : Nat) "GroupJournalModel" "fitMany" "I") ∈ lw_all := lw_g (lw_at lw_m13 149 rfl) rfl
theorem q3217 : (Jvm.Cond.fieldLink "GroupJournalModel" (136 : Nat) "GroupJournalModel" "ways" "[I") ∈ lw_all := lw_g (lw_at lw_m13 150 rfl) rfl
theorem q3218 : (Jvm.Cond.fieldLink "GroupJournalModel" (139 : Nat) "GroupJournalModel" "like" "[I") ∈ lw_all := lw_g (lw_at lw_m13 151 rfl) rfl
theorem q3219 : (Jvm.Cond.fieldLink "GroupJournalModel" (143 : Nat) "GroupJournalModel" "kept0" "[I") ∈ lw_all := lw_g (lw_at lw_m13 152 rfl) rfl
theorem q3220 : (Jvm.Cond.fieldLink "GroupJournalModel" (347 : Nat) "GroupJournalModel" "undoable" "I") ∈ lw_all := lw_g (lw_at lw_m13 153 rfl) rfl
theorem q3221 : (Jvm.Cond.fieldLink "GroupJournalModel" (634 : Nat) "GroupJournalModel" "newest" "I") ∈ lw_all := lw_g (lw_at lw_m13 154 rfl) rfl
theorem q3222 : (Jvm.Cond.fieldLink "GroupJournalModel" (146 : Nat) "GroupJournalModel" "seeded" "J") ∈ lw_all := lw_g (lw_at lw_m13 155 rfl) rfl
theorem q3223 : (Jvm.Cond.fieldLink "GroupJournalModel" (150 : Nat) "GroupJournalModel" "firstAsked" "[C") ∈ lw_all := lw_g (lw_at lw_m13 156 rfl) rfl
theorem q3224 : (Jvm.Cond.fieldLink "GroupJournalModel" (153 : Nat) "GroupJournalModel" "lastAsked" "[C") ∈ lw_all := lw_g (lw_at lw_m13 157 rfl) rfl
theorem q3225 : (Jvm.Cond.fieldLink "GroupJournalModel" (156 : Nat) "GroupJournalModel" "oftenAsked" "[C") ∈ lw_all := lw_g (lw_at lw_m13 158 rfl) rfl
theorem q3226 : (Jvm.Cond.fieldLink "GroupJournalModel" (159 : Nat) "GroupJournalModel" "totalAsked" "[C") ∈ lw_all := lw_g (lw_at lw_m13 159 rfl) rfl
theorem q3227 : (Jvm.Cond.fieldLink "GroupJournalModel" (162 : Nat) "GroupJournalModel" "mostAsked" "[C") ∈ lw_all := lw_g (lw_at lw_m13 160 rfl) rfl
theorem q3228 : (Jvm.Cond.fieldLink "GroupJournalModel" (165 : Nat) "GroupJournalModel" "leastAsked" "[C") ∈ lw_all := lw_g (lw_at lw_m13 161 rfl) rfl
theorem q3229 : (Jvm.Cond.fieldLink "GroupJournalModel" (168 : Nat) "GroupJournalModel" "notAsked" "[C") ∈ lw_all := lw_g (lw_at lw_m13 162 rfl) rfl
theorem q3230 : (Jvm.Cond.fieldLink "GroupJournalModel" (171 : Nat) "GroupJournalModel" "andAsked" "[C") ∈ lw_all := lw_g (lw_at lw_m13 163 rfl) rfl
theorem q3231 : (Jvm.Cond.fieldLink "GroupJournalModel" (174 : Nat) "GroupJournalModel" "orAsked" "[C") ∈ lw_all := lw_g (lw_at lw_m13 164 rfl) rfl
theorem q3232 : (Jvm.Cond.fieldLink "GroupJournalModel" (177 : Nat) "GroupJournalModel" "allAsked" "[C") ∈ lw_all := lw_g (lw_at lw_m13 165 rfl) rfl
theorem q3233 : (Jvm.Cond.fieldLink "GroupJournalModel" (180 : Nat) "GroupJournalModel" "minAsked" "[C") ∈ lw_all := lw_g (lw_at lw_m13 166 rfl) rfl
theorem q3234 : (Jvm.Cond.fieldLink "GroupJournalModel" (183 : Nat) "GroupJournalModel" "maxAsked" "[C") ∈ lw_all := lw_g (lw_at lw_m13 167 rfl) rfl
theorem q3235 : (Jvm.Cond.fieldLink "GroupJournalModel" (186 : Nat) "GroupJournalModel" "tickAsked" "[C") ∈ lw_all := lw_g (lw_at lw_m13 168 rfl) rfl
theorem q3236 : (Jvm.Cond.fieldLink "GroupJournalModel" (189 : Nat) "GroupJournalModel" "recordsAsked" "[C") ∈ lw_all := lw_g (lw_at lw_m13 169 rfl) rfl
theorem q3237 : (Jvm.Cond.fieldLink "GroupJournalModel" (192 : Nat) "GroupJournalModel" "payloadAsked" "[C") ∈ lw_all := lw_g (lw_at lw_m13 170 rfl) rfl
theorem q3238 : (Jvm.Cond.fieldLink "GroupJournalModel" (195 : Nat) "GroupJournalModel" "ageAsked" "[C") ∈ lw_all := lw_g (lw_at lw_m13 171 rfl) rfl
theorem q3239 : (Jvm.Cond.fieldLink "GroupJournalModel" (198 : Nat) "GroupJournalModel" "waitersAsked" "[C") ∈ lw_all := lw_g (lw_at lw_m13 172 rfl) rfl
theorem q3240 : (Jvm.Cond.fieldLink "GroupJournalModel" (201 : Nat) "GroupJournalModel" "numberAsked" "[C") ∈ lw_all := lw_g (lw_at lw_m13 173 rfl) rfl
theorem q3241 : (Jvm.Cond.fieldLink "GroupJournalModel" (204 : Nat) "GroupJournalModel" "serialAsked" "[C") ∈ lw_all := lw_g (lw_at lw_m13 174 rfl) rfl
theorem q3242 : (Jvm.Cond.fieldLink "GroupJournalModel" (207 : Nat) "GroupJournalModel" "framesAsked" "[C") ∈ lw_all := lw_g (lw_at lw_m13 175 rfl) rfl
theorem q3243 : (Jvm.Cond.fieldLink "GroupJournalModel" (210 : Nat) "GroupJournalModel" "octetAsked" "[C") ∈ lw_all := lw_g (lw_at lw_m13 176 rfl) rfl
theorem q3244 : (Jvm.Cond.fieldLink "GroupJournalModel" (213 : Nat) "GroupJournalModel" "valueAsked" "[C") ∈ lw_all := lw_g (lw_at lw_m13 177 rfl) rfl
theorem q3245 : (Jvm.Cond.fieldLink "GroupJournalModel" (216 : Nat) "GroupJournalModel" "qCodes" "[I") ∈ lw_all := lw_g (lw_at lw_m13 178 rfl) rfl
theorem q3246 : (Jvm.Cond.fieldLink "GroupJournalModel" (294 : Nat) "GroupJournalModel" "qCoded" "I") ∈ lw_all := lw_g (lw_at lw_m13 179 rfl) rfl
theorem q3247 : (Jvm.Cond.fieldLink "GroupJournalModel" (219 : Nat) "GroupJournalModel" "qWait" "[I") ∈ lw_all := lw_g (lw_at lw_m13 180 rfl) rfl
theorem q3248 : (Jvm.Cond.fieldLink "GroupJournalModel" (297 : Nat) "GroupJournalModel" "qWaits" "I") ∈ lw_all := lw_g (lw_at lw_m13 181 rfl) rfl
theorem q3249 : (Jvm.Cond.fieldLink "GroupJournalModel" (300 : Nat) "GroupJournalModel" "qOpened" "I") ∈ lw_all := lw_g (lw_at lw_m13 182 rfl) rfl
theorem q3250 : (Jvm.Cond.fieldLink "GroupJournalModel" (303 : Nat) "GroupJournalModel" "qBase" "I") ∈ lw_all := lw_g (lw_at lw_m13 183 rfl) rfl
theorem q3251 : (Jvm.Cond.fieldLink "GroupJournalModel" (222 : Nat) "GroupJournalModel" "qPile" "[J") ∈ lw_all := lw_g (lw_at lw_m13 184 rfl) rfl
theorem q3252 : (Jvm.Cond.fieldLink "GroupJournalModel" (366 : Nat) "GroupJournalModel" "qPiled" "I") ∈ lw_all := lw_g (lw_at lw_m13 185 rfl) rfl
theorem q3253 : (Jvm.Cond.fieldLink "GroupJournalModel" (729 : Nat) "GroupJournalModel" "qAnswer" "J") ∈ lw_all := lw_g (lw_at lw_m13 186 rfl) rfl
theorem q3254 : (Jvm.Cond.fieldLink "GroupJournalModel" (734 : Nat) "GroupJournalModel" "qIsNew" "Z") ∈ lw_all := lw_g (lw_at lw_m13 187 rfl) rfl
theorem q3255 : (Jvm.Cond.fieldLink "GroupJournalModel" (226 : Nat) "GroupJournalModel" "octet" "[I") ∈ lw_all := lw_g (lw_at lw_m13 188 rfl) rfl
theorem q3256 : (Jvm.Cond.fieldLink "GroupJournalModel" (749 : Nat) "GroupJournalModel" "octets" "I") ∈ lw_all := lw_g (lw_at lw_m13 189 rfl) rfl
theorem q3257 : (Jvm.Cond.laysFinal "GroupJournalModel" "GroupJournalModel" "tape" "[I") ∈ lw_all := lw_g (lw_at lw_m13 190 rfl) rfl
theorem q3258 : (Jvm.Cond.soleField "GroupJournalModel" "tape") ∈ lw_all := lw_g (lw_at lw_m13 191 rfl) rfl
theorem q3259 : (Jvm.Cond.lays "GroupJournalModel" "GroupJournalModel" "taped" "I") ∈ lw_all := lw_g (lw_at lw_m13 192 rfl) rfl
theorem q3260 : (Jvm.Cond.soleField "GroupJournalModel" "taped") ∈ lw_all := lw_g (lw_at lw_m13 193 rfl) rfl
theorem q3261 : (Jvm.Cond.lays "GroupJournalModel" "GroupJournalModel" "at" "I") ∈ lw_all := lw_g (lw_at lw_m13 194 rfl) rfl
theorem q3262 : (Jvm.Cond.soleField "GroupJournalModel" "at") ∈ lw_all := lw_g (lw_at lw_m13 195 rfl) rfl
theorem q3263 : (Jvm.Cond.lays "GroupJournalModel" "GroupJournalModel" "end" "I") ∈ lw_all := lw_g (lw_at lw_m13 196 rfl) rfl
theorem q3264 : (Jvm.Cond.soleField "GroupJournalModel" "end") ∈ lw_all := lw_g (lw_at lw_m13 197 rfl) rfl
theorem q3265 : (Jvm.Cond.lays "GroupJournalModel" "GroupJournalModel" "ended" "I") ∈ lw_all := lw_g (lw_at lw_m13 198 rfl) rfl
theorem q3266 : (Jvm.Cond.soleField "GroupJournalModel" "ended") ∈ lw_all := lw_g (lw_at lw_m13 199 rfl) rfl
theorem q3267 : (Jvm.Cond.lays "GroupJournalModel" "GroupJournalModel" "bad" "I") ∈ lw_all := lw_g (lw_at lw_m13 200 rfl) rfl
theorem q3268 : (Jvm.Cond.soleField "GroupJournalModel" "bad") ∈ lw_all := lw_g (lw_at lw_m13 201 rfl) rfl
theorem q3269 : (Jvm.Cond.lays "GroupJournalModel" "GroupJournalModel" "badPlace" "I") ∈ lw_all := lw_g (lw_at lw_m13 202 rfl) rfl
theorem q3270 : (Jvm.Cond.soleField "GroupJournalModel" "badPlace") ∈ lw_all := lw_g (lw_at lw_m13 203 rfl) rfl
theorem q3271 : (Jvm.Cond.lays "GroupJournalModel" "GroupJournalModel" "fault" "I") ∈ lw_all := lw_g (lw_at lw_m13 204 rfl) rfl
theorem q3272 : (Jvm.Cond.soleField "GroupJournalModel" "fault") ∈ lw_all := lw_g (lw_at lw_m13 205 rfl) rfl
theorem q3273 : (Jvm.Cond.lays "GroupJournalModel" "GroupJournalModel" "faultPlace" "I") ∈ lw_all := lw_g (lw_at lw_m13 206 rfl) rfl
theorem q3274 : (Jvm.Cond.soleField "GroupJournalModel" "faultPlace") ∈ lw_all := lw_g (lw_at lw_m13 207 rfl) rfl
theorem q3275 : (Jvm.Cond.laysFinal "GroupJournalModel" "GroupJournalModel" "refused" "[I") ∈ lw_all := lw_g (lw_at lw_m13 208 rfl) rfl
theorem q3276 : (Jvm.Cond.soleField "GroupJournalModel" "refused") ∈ lw_all := lw_g (lw_at lw_m13 209 rfl) rfl
theorem q3277 : (Jvm.Cond.lays "GroupJournalModel" "GroupJournalModel" "numberPlace" "I") ∈ lw_all := lw_g (lw_at lw_m13 210 rfl) rfl
theorem q3278 : (Jvm.Cond.soleField "GroupJournalModel" "numberPlace") ∈ lw_all := lw_g (lw_at lw_m13 211 rfl) rfl
theorem q3279 : (Jvm.Cond.laysFinal "GroupJournalModel" "GroupJournalModel" "journalWord" "[C") ∈ lw_all := lw_g (lw_at lw_m13 212 rfl) rfl
theorem q3280 : (Jvm.Cond.soleField "GroupJournalModel" "journalWord") ∈ lw_all := lw_g (lw_at lw_m13 213 rfl) rfl
theorem q3281 : (Jvm.Cond.laysFinal "GroupJournalModel" "GroupJournalModel" "blocksWord" "[C") ∈ lw_all := lw_g (lw_at lw_m13 214 rfl) rfl
theorem q3282 : (Jvm.Cond.soleField "GroupJournalModel" "blocksWord") ∈ lw_all := lw_g (lw_at lw_m13 215 rfl) rfl
theorem q3283 : (Jvm.Cond.laysFinal "GroupJournalModel" "GroupJournalModel" "bytesWord" "[C") ∈ lw_all := lw_g (lw_at lw_m13 216 rfl) rfl
theorem q3284 : (Jvm.Cond.soleField "GroupJournalModel" "bytesWord") ∈ lw_all := lw_g (lw_at lw_m13 217 rfl) rfl
theorem q3285 : (Jvm.Cond.laysFinal "GroupJournalModel" "GroupJournalModel" "putWord" "[C") ∈ lw_all := lw_g (lw_at lw_m13 218 rfl) rfl
theorem q3286 : (Jvm.Cond.soleField "GroupJournalModel" "putWord") ∈ lw_all := lw_g (lw_at lw_m13 219 rfl) rfl
theorem q3287 : (Jvm.Cond.laysFinal "GroupJournalModel" "GroupJournalModel" "sizeWord" "[C") ∈ lw_all := lw_g (lw_at lw_m13 220 rfl) rfl
theorem q3288 : (Jvm.Cond.soleField "GroupJournalModel" "sizeWord") ∈ lw_all := lw_g (lw_at lw_m13 221 rfl) rfl
theorem q3289 : (Jvm.Cond.laysFinal "GroupJournalModel" "GroupJournalModel" "closesWord" "[C") ∈ lw_all := lw_g (lw_at lw_m13 222 rfl) rfl
theorem q3290 : (Jvm.Cond.soleField "GroupJournalModel" "closesWord") ∈ lw_all := lw_g (lw_at lw_m13 223 rfl) rfl
theorem q3291 : (Jvm.Cond.laysFinal "GroupJournalModel" "GroupJournalModel" "takesWord" "[C") ∈ lw_all := lw_g (lw_at lw_m13 224 rfl) rfl
theorem q3292 : (Jvm.Cond.soleField "GroupJournalModel" "takesWord") ∈ lw_all := lw_g (lw_at lw_m13 225 rfl) rfl
theorem q3293 : (Jvm.Cond.laysFinal "GroupJournalModel" "GroupJournalModel" "noiseWord" "[C") ∈ lw_all := lw_g (lw_at lw_m13 226 rfl) rfl
theorem q3294 : (Jvm.Cond.soleField "GroupJournalModel" "noiseWord") ∈ lw_all := lw_g (lw_at lw_m13 227 rfl) rfl
theorem q3295 : (Jvm.Cond.laysFinal "GroupJournalModel" "GroupJournalModel" "tickWord" "[C") ∈ lw_all := lw_g (lw_at lw_m13 228 rfl) rfl
theorem q3296 : (Jvm.Cond.soleField "GroupJournalModel" "tickWord") ∈ lw_all := lw_g (lw_at lw_m13 229 rfl) rfl
theorem q3297 : (Jvm.Cond.laysFinal "GroupJournalModel" "GroupJournalModel" "recordsWord" "[C") ∈ lw_all := lw_g (lw_at lw_m13 230 rfl) rfl
theorem q3298 : (Jvm.Cond.soleField "GroupJournalModel" "recordsWord") ∈ lw_all := lw_g (lw_at lw_m13 231 rfl) rfl
theorem q3299 : (Jvm.Cond.laysFinal "GroupJournalModel" "GroupJournalModel" "payloadWord" "[C") ∈ lw_all := lw_g (lw_at lw_m13 232 rfl) rfl
theorem q3300 : (Jvm.Cond.soleField "GroupJournalModel" "payloadWord") ∈ lw_all := lw_g (lw_at lw_m13 233 rfl) rfl
theorem q3301 : (Jvm.Cond.laysFinal "GroupJournalModel" "GroupJournalModel" "ageWord" "[C") ∈ lw_all := lw_g (lw_at lw_m13 234 rfl) rfl
theorem q3302 : (Jvm.Cond.soleField "GroupJournalModel" "ageWord") ∈ lw_all := lw_g (lw_at lw_m13 235 rfl) rfl
theorem q3303 : (Jvm.Cond.laysFinal "GroupJournalModel" "GroupJournalModel" "waitersWord" "[C") ∈ lw_all := lw_g (lw_at lw_m13 236 rfl) rfl
theorem q3304 : (Jvm.Cond.soleField "GroupJournalModel" "waitersWord") ∈ lw_all := lw_g (lw_at lw_m13 237 rfl) rfl
theorem q3305 : (Jvm.Cond.laysFinal "GroupJournalModel" "GroupJournalModel" "numberWord" "[C") ∈ lw_all := lw_g (lw_at lw_m13 238 rfl) rfl
theorem q3306 : (Jvm.Cond.soleField "GroupJournalModel" "numberWord") ∈ lw_all := lw_g (lw_at lw_m13 239 rfl) rfl
theorem q3307 : (Jvm.Cond.laysFinal "GroupJournalModel" "GroupJournalModel" "serialWord" "[C") ∈ lw_all := lw_g (lw_at lw_m14 0 rfl) rfl
theorem q3308 : (Jvm.Cond.soleField "GroupJournalModel" "serialWord") ∈ lw_all := lw_g (lw_at lw_m14 1 rfl) rfl
theorem q3309 : (Jvm.Cond.laysFinal "GroupJournalModel" "GroupJournalModel" "firstWord" "[C") ∈ lw_all := lw_g (lw_at lw_m14 2 rfl) rfl
theorem q3310 : (Jvm.Cond.soleField "GroupJournalModel" "firstWord") ∈ lw_all := lw_g (lw_at lw_m14 3 rfl) rfl
theorem q3311 : (Jvm.Cond.laysFinal "GroupJournalModel" "GroupJournalModel" "framesWord" "[C") ∈ lw_all := lw_g (lw_at lw_m14 4 rfl) rfl
theorem q3312 : (Jvm.Cond.soleField "GroupJournalModel" "framesWord") ∈ lw_all := lw_g (lw_at lw_m14 5 rfl) rfl
theorem q3313 : (Jvm.Cond.laysFinal "GroupJournalModel" "GroupJournalModel" "octetWord" "[C") ∈ lw_all := lw_g (lw_at lw_m14 6 rfl) rfl
theorem q3314 : (Jvm.Cond.soleField "GroupJournalModel" "octetWord") ∈ lw_all := lw_g (lw_at lw_m14 7 rfl) rfl
theorem q3315 : (Jvm.Cond.laysFinal "GroupJournalModel" "GroupJournalModel" "valueWord" "[C") ∈ lw_all := lw_g (lw_at lw_m14 8 rfl) rfl
theorem q3316 : (Jvm.Cond.soleField "GroupJournalModel" "valueWord") ∈ lw_all := lw_g (lw_at lw_m14 9 rfl) rfl
theorem q3317 : (Jvm.Cond.laysFinal "GroupJournalModel" "GroupJournalModel" "orWord" "[C") ∈ lw_all := lw_g (lw_at lw_m14 10 rfl) rfl
theorem q3318 : (Jvm.Cond.soleField "GroupJournalModel" "orWord") ∈ lw_all := lw_g (lw_at lw_m14 11 rfl) rfl
theorem q3319 : (Jvm.Cond.laysFinal "GroupJournalModel" "GroupJournalModel" "andWord" "[C") ∈ lw_all := lw_g (lw_at lw_m14 12 rfl) rfl
theorem q3320 : (Jvm.Cond.soleField "GroupJournalModel" "andWord") ∈ lw_all := lw_g (lw_at lw_m14 13 rfl) rfl
theorem q3321 : (Jvm.Cond.laysFinal "GroupJournalModel" "GroupJournalModel" "notWord" "[C") ∈ lw_all := lw_g (lw_at lw_m14 14 rfl) rfl
theorem q3322 : (Jvm.Cond.soleField "GroupJournalModel" "notWord") ∈ lw_all := lw_g (lw_at lw_m14 15 rfl) rfl
theorem q3323 : (Jvm.Cond.laysFinal "GroupJournalModel" "GroupJournalModel" "allWord" "[C") ∈ lw_all := lw_g (lw_at lw_m14 16 rfl) rfl
theorem q3324 : (Jvm.Cond.soleField "GroupJournalModel" "allWord") ∈ lw_all := lw_g (lw_at lw_m14 17 rfl) rfl
theorem q3325 : (Jvm.Cond.laysFinal "GroupJournalModel" "GroupJournalModel" "minWord" "[C") ∈ lw_all := lw_g (lw_at lw_m14 18 rfl) rfl
theorem q3326 : (Jvm.Cond.soleField "GroupJournalModel" "minWord") ∈ lw_all := lw_g (lw_at lw_m14 19 rfl) rfl
theorem q3327 : (Jvm.Cond.laysFinal "GroupJournalModel" "GroupJournalModel" "maxWord" "[C") ∈ lw_all := lw_g (lw_at lw_m14 20 rfl) rfl
theorem q3328 : (Jvm.Cond.soleField "GroupJournalModel" "maxWord") ∈ lw_all := lw_g (lw_at lw_m14 21 rfl) rfl
theorem q3329 : (Jvm.Cond.laysFinal "GroupJournalModel" "GroupJournalModel" "many" "[I") ∈ lw_all := lw_g (lw_at lw_m14 22 rfl) rfl
theorem q3330 : (Jvm.Cond.soleField "GroupJournalModel" "many") ∈ lw_all := lw_g (lw_at lw_m14 23 rfl) rfl
theorem q3331 : (Jvm.Cond.laysFinal "GroupJournalModel" "GroupJournalModel" "puts" "[I") ∈ lw_all := lw_g (lw_at lw_m14 24 rfl) rfl
theorem q3332 : (Jvm.Cond.soleField "GroupJournalModel" "puts") ∈ lw_all := lw_g (lw_at lw_m14 25 rfl) rfl
theorem q3333 : (Jvm.Cond.laysFinal "GroupJournalModel" "GroupJournalModel" "codeFrom" "[I") ∈ lw_all := lw_g (lw_at lw_m14 26 rfl) rfl
theorem q3334 : (Jvm.Cond.soleField "GroupJournalModel" "codeFrom") ∈ lw_all := lw_g (lw_at lw_m14 27 rfl) rfl
theorem q3335 : (Jvm.Cond.laysFinal "GroupJournalModel" "GroupJournalModel" "codeEnd" "[I") ∈ lw_all := lw_g (lw_at lw_m14 28 rfl) rfl
theorem q3336 : (Jvm.Cond.soleField "GroupJournalModel" "codeEnd") ∈ lw_all := lw_g (lw_at lw_m14 29 rfl) rfl
theorem q3337 : (Jvm.Cond.laysFinal "GroupJournalModel" "GroupJournalModel" "codes" "[I") ∈ lw_all := lw_g (lw_at lw_m14 30 rfl) rfl
theorem q3338 : (Jvm.Cond.soleField "GroupJournalModel" "codes") ∈ lw_all := lw_g (lw_at lw_m14 31 rfl) rfl
theorem q3339 : (Jvm.Cond.lays "GroupJournalModel" "GroupJournalModel" "coded" "I") ∈ lw_all := lw_g (lw_at lw_m14 32 rfl) rfl
theorem q3340 : (Jvm.Cond.soleField "GroupJournalModel" "coded") ∈ lw_all := lw_g (lw_at lw_m14 33 rfl) rfl
theorem q3341 : (Jvm.Cond.lays "GroupJournalModel" "GroupJournalModel" "statements" "I") ∈ lw_all := lw_g (lw_at lw_m14 34 rfl) rfl
theorem q3342 : (Jvm.Cond.soleField "GroupJournalModel" "statements") ∈ lw_all := lw_g (lw_at lw_m14 35 rfl) rfl
theorem q3343 : (Jvm.Cond.lays "GroupJournalModel" "GroupJournalModel" "isTold" "Z") ∈ lw_all := lw_g (lw_at lw_m14 36 rfl) rfl
theorem q3344 : (Jvm.Cond.soleField "GroupJournalModel" "isTold") ∈ lw_all := lw_g (lw_at lw_m14 37 rfl) rfl
theorem q3345 : (Jvm.Cond.lays "GroupJournalModel" "GroupJournalModel" "textKind" "I") ∈ lw_all := lw_g (lw_at lw_m14 38 rfl) rfl
theorem q3346 : (Jvm.Cond.soleField "GroupJournalModel" "textKind") ∈ lw_all := lw_g (lw_at lw_m14 39 rfl) rfl
theorem q3347 : (Jvm.Cond.laysFinal "GroupJournalModel" "GroupJournalModel" "now" "[I") ∈ lw_all := lw_g (lw_at lw_m14 40 rfl) rfl
theorem q3348 : (Jvm.Cond.soleField "GroupJournalModel" "now") ∈ lw_all := lw_g (lw_at lw_m14 41 rfl) rfl
theorem q3349 : (Jvm.Cond.lays "GroupJournalModel" "GroupJournalModel" "askRecords" "I") ∈ lw_all := lw_g (lw_at lw_m14 42 rfl) rfl
theorem q3350 : (Jvm.Cond.soleField "GroupJournalModel" "askRecords") ∈ lw_all := lw_g (lw_at lw_m14 43 rfl) rfl
theorem q3351 : (Jvm.Cond.lays "GroupJournalModel" "GroupJournalModel" "askPayload" "I") ∈ lw_all := lw_g (lw_at lw_m14 44 rfl) rfl
theorem q3352 : (Jvm.Cond.soleField "GroupJournalModel" "askPayload") ∈ lw_all := lw_g (lw_at lw_m14 45 rfl) rfl
theorem q3353 : (Jvm.Cond.lays "GroupJournalModel" "GroupJournalModel" "askSegment" "I") ∈ lw_all := lw_g (lw_at lw_m14 46 rfl) rfl
theorem q3354 : (Jvm.Cond.soleField "GroupJournalModel" "askSegment") ∈ lw_all := lw_g (lw_at lw_m14 47 rfl) rfl
theorem q3355 : (Jvm.Cond.laysFinal "GroupJournalModel" "GroupJournalModel" "framed" "[I") ∈ lw_all := lw_g (lw_at lw_m14 48 rfl) rfl
theorem q3356 : (Jvm.Cond.soleField "GroupJournalModel" "framed") ∈ lw_all := lw_g (lw_at lw_m14 49 rfl) rfl
theorem q3357 : (Jvm.Cond.lays "GroupJournalModel" "GroupJournalModel" "framedMany" "I") ∈ lw_all := lw_g (lw_at lw_m14 50 rfl) rfl
theorem q3358 : (Jvm.Cond.soleField "GroupJournalModel" "framedMany") ∈ lw_all := lw_g (lw_at lw_m14 51 rfl) rfl
theorem q3359 : (Jvm.Cond.laysFinal "GroupJournalModel" "GroupJournalModel" "tried" "[I") ∈ lw_all := lw_g (lw_at lw_m14 52 rfl) rfl
theorem q3360 : (Jvm.Cond.soleField "GroupJournalModel" "tried") ∈ lw_all := lw_g (lw_at lw_m14 53 rfl) rfl
theorem q3361 : (Jvm.Cond.lays "GroupJournalModel" "GroupJournalModel" "ruleNow" "I") ∈ lw_all := lw_g (lw_at lw_m14 54 rfl) rfl
theorem q3362 : (Jvm.Cond.soleField "GroupJournalModel" "ruleNow") ∈ lw_all := lw_g (lw_at lw_m14 55 rfl) rfl
theorem q3363 : (Jvm.Cond.lays "GroupJournalModel" "GroupJournalModel" "releasedMany" "I") ∈ lw_all := lw_g (lw_at lw_m14 56 rfl) rfl
theorem q3364 : (Jvm.Cond.soleField "GroupJournalModel" "releasedMany") ∈ lw_all := lw_g (lw_at lw_m14 57 rfl) rfl
theorem q3365 : (Jvm.Cond.lays "GroupJournalModel" "GroupJournalModel" "waitedMany" "I") ∈ lw_all := lw_g (lw_at lw_m14 58 rfl) rfl
theorem q3366 : (Jvm.Cond.soleField "GroupJournalModel" "waitedMany") ∈ lw_all := lw_g (lw_at lw_m14 59 rfl) rfl
theorem q3367 : (Jvm.Cond.lays "GroupJournalModel" "GroupJournalModel" "ticked" "I") ∈ lw_all := lw_g (lw_at lw_m14 60 rfl) rfl
theorem q3368 : (Jvm.Cond.soleField "GroupJournalModel" "ticked") ∈ lw_all := lw_g (lw_at lw_m14 61 rfl) rfl
theorem q3369 : (Jvm.Cond.lays "GroupJournalModel" "GroupJournalModel" "isThought" "Z") ∈ lw_all := lw_g (lw_at lw_m14 62 rfl) rfl
theorem q3370 : (Jvm.Cond.soleField "GroupJournalModel" "isThought") ∈ lw_all := lw_g (lw_at lw_m14 63 rfl) rfl
theorem q3371 : (Jvm.Cond.laysFinal "GroupJournalModel" "GroupJournalModel" "aside" "[I") ∈ lw_all := lw_g (lw_at lw_m14 64 rfl) rfl
theorem q3372 : (Jvm.Cond.soleField "GroupJournalModel" "aside") ∈ lw_all := lw_g (lw_at lw_m14 65 rfl) rfl
theorem q3373 : (Jvm.Cond.laysFinal "GroupJournalModel" "GroupJournalModel" "frameRow" "[I") ∈ lw_all := lw_g (lw_at lw_m14 66 rfl) rfl
theorem q3374 : (Jvm.Cond.soleField "GroupJournalModel" "frameRow") ∈ lw_all := lw_g (lw_at lw_m14 67 rfl) rfl
theorem q3375 : (Jvm.Cond.lays "GroupJournalModel" "GroupJournalModel" "frameMany" "I") ∈ lw_all := lw_g (lw_at lw_m14 68 rfl) rfl
theorem q3376 : (Jvm.Cond.soleField "GroupJournalModel" "frameMany") ∈ lw_all := lw_g (lw_at lw_m14 69 rfl) rfl
theorem q3377 : (Jvm.Cond.lays "GroupJournalModel" "GroupJournalModel" "walkEnd" "I") ∈ lw_all := lw_g (lw_at lw_m14 70 rfl) rfl
theorem q3378 : (Jvm.Cond.soleField "GroupJournalModel" "walkEnd") ∈ lw_all := lw_g (lw_at lw_m14 71 rfl) rfl
theorem q3379 : (Jvm.Cond.lays "GroupJournalModel" "GroupJournalModel" "walkStop" "I") ∈ lw_all := lw_g (lw_at lw_m14 72 rfl) rfl
theorem q3380 : (Jvm.Cond.soleField "GroupJournalModel" "walkStop") ∈ lw_all := lw_g (lw_at lw_m14 73 rfl) rfl
theorem q3381 : (Jvm.Cond.lays "GroupJournalModel" "GroupJournalModel" "walkNumber" "I") ∈ lw_all := lw_g (lw_at lw_m14 74 rfl) rfl
theorem q3382 : (Jvm.Cond.soleField "GroupJournalModel" "walkNumber") ∈ lw_all := lw_g (lw_at lw_m14 75 rfl) rfl
theorem q3383 : (Jvm.Cond.lays "GroupJournalModel" "GroupJournalModel" "walkBytes" "I") ∈ lw_all := lw_g (lw_at lw_m14 76 rfl) rfl
theorem q3384 : (Jvm.Cond.soleField "GroupJournalModel" "walkBytes") ∈ lw_all := lw_g (lw_at lw_m14 77 rfl) rfl
theorem q3385 : (Jvm.Cond.lays "GroupJournalModel" "GroupJournalModel" "walkHead" "I") ∈ lw_all := lw_g (lw_at lw_m14 78 rfl) rfl
theorem q3386 : (Jvm.Cond.soleField "GroupJournalModel" "walkHead") ∈ lw_all := lw_g (lw_at lw_m14 79 rfl) rfl
theorem q3387 : (Jvm.Cond.lays "GroupJournalModel" "GroupJournalModel" "isRecovering" "Z") ∈ lw_all := lw_g (lw_at lw_m14 80 rfl) rfl
theorem q3388 : (Jvm.Cond.soleField "GroupJournalModel" "isRecovering") ∈ lw_all := lw_g (lw_at lw_m14 81 rfl) rfl
theorem q3389 : (Jvm.Cond.lays "GroupJournalModel" "GroupJournalModel" "rowMany" "I") ∈ lw_all := lw_g (lw_at lw_m14 82 rfl) rfl
theorem q3390 : (Jvm.Cond.soleField "GroupJournalModel" "rowMany") ∈ lw_all := lw_g (lw_at lw_m14 83 rfl) rfl
theorem q3391 : (Jvm.Cond.laysFinal "GroupJournalModel" "GroupJournalModel" "rows" "[I") ∈ lw_all := lw_g (lw_at lw_m14 84 rfl) rfl
theorem q3392 : (Jvm.Cond.soleField "GroupJournalModel" "rows") ∈ lw_all := lw_g (lw_at lw_m14 85 rfl) rfl
theorem q3393 : (Jvm.Cond.laysFinal "GroupJournalModel" "GroupJournalModel" "fitting" "[Z") ∈ lw_all := lw_g (lw_at lw_m14 86 rfl) rfl
theorem q3394 : (Jvm.Cond.soleField "GroupJournalModel" "fitting") ∈ lw_all := lw_g (lw_at lw_m14 87 rfl) rfl
theorem q3395 : (Jvm.Cond.lays "GroupJournalModel" "GroupJournalModel" "fitMany" "I") ∈ lw_all := lw_g (lw_at lw_m14 88 rfl) rfl
theorem q3396 : (Jvm.Cond.soleField "GroupJournalModel" "fitMany") ∈ lw_all := lw_g (lw_at lw_m14 89 rfl) rfl
theorem q3397 : (Jvm.Cond.laysFinal "GroupJournalModel" "GroupJournalModel" "ways" "[I") ∈ lw_all := lw_g (lw_at lw_m14 90 rfl) rfl
theorem q3398 : (Jvm.Cond.soleField "GroupJournalModel" "ways") ∈ lw_all := lw_g (lw_at lw_m14 91 rfl) rfl
theorem q3399 : (Jvm.Cond.laysFinal "GroupJournalModel" "GroupJournalModel" "like" "[I") ∈ lw_all := lw_g (lw_at lw_m14 92 rfl) rfl
theorem q3400 : (Jvm.Cond.soleField "GroupJournalModel" "like") ∈ lw_all := lw_g (lw_at lw_m14 93 rfl) rfl
theorem q3401 : (Jvm.Cond.laysFinal "GroupJournalModel" "GroupJournalModel" "kept0" "[I") ∈ lw_all := lw_g (lw_at lw_m14 94 rfl) rfl
theorem q3402 : (Jvm.Cond.soleField "GroupJournalModel" "kept0") ∈ lw_all := lw_g (lw_at lw_m14 95 rfl) rfl
theorem q3403 : (Jvm.Cond.lays "GroupJournalModel" "GroupJournalModel" "undoable" "I") ∈ lw_all := lw_g (lw_at lw_m14 96 rfl) rfl
theorem q3404 : (Jvm.Cond.soleField "GroupJournalModel" "undoable") ∈ lw_all := lw_g (lw_at lw_m14 97 rfl) rfl
theorem q3405 : (Jvm.Cond.lays "GroupJournalModel" "GroupJournalModel" "newest" "I") ∈ lw_all := lw_g (lw_at lw_m14 98 rfl) rfl
theorem q3406 : (Jvm.Cond.soleField "GroupJournalModel" "newest") ∈ lw_all := lw_g (lw_at lw_m14 99 rfl) rfl
theorem q3407 : (Jvm.Cond.lays "GroupJournalModel" "GroupJournalModel" "seeded" "J") ∈ lw_all := lw_g (lw_at lw_m14 100 rfl) rfl
theorem q3408 : (Jvm.Cond.soleField "GroupJournalModel" "seeded") ∈ lw_all := lw_g (lw_at lw_m14 101 rfl) rfl
theorem q3409 : (Jvm.Cond.laysFinal "GroupJournalModel" "GroupJournalModel" "firstAsked" "[C") ∈ lw_all := lw_g (lw_at lw_m14 102 rfl) rfl
theorem q3410 : (Jvm.Cond.soleField "GroupJournalModel" "firstAsked") ∈ lw_all := lw_g (lw_at lw_m14 103 rfl) rfl
theorem q3411 : (Jvm.Cond.laysFinal "GroupJournalModel" "GroupJournalModel" "lastAsked" "[C") ∈ lw_all := lw_g (lw_at lw_m14 104 rfl) rfl
theorem q3412 : (Jvm.Cond.soleField "GroupJournalModel" "lastAsked") ∈ lw_all := lw_g (lw_at lw_m14 105 rfl) rfl
theorem q3413 : (Jvm.Cond.laysFinal "GroupJournalModel" "GroupJournalModel" "oftenAsked" "[C") ∈ lw_all := lw_g (lw_at lw_m14 106 rfl) rfl
theorem q3414 : (Jvm.Cond.soleField "GroupJournalModel" "oftenAsked") ∈ lw_all := lw_g (lw_at lw_m14 107 rfl) rfl
theorem q3415 : (Jvm.Cond.laysFinal "GroupJournalModel" "GroupJournalModel" "totalAsked" "[C") ∈ lw_all := lw_g (lw_at lw_m14 108 rfl) rfl
theorem q3416 : (Jvm.Cond.soleField "GroupJournalModel" "totalAsked") ∈ lw_all := lw_g (lw_at lw_m14 109 rfl) rfl
theorem q3417 : (Jvm.Cond.laysFinal "GroupJournalModel" "GroupJournalModel" "mostAsked" "[C") ∈ lw_all := lw_g (lw_at lw_m14 110 rfl) rfl
theorem q3418 : (Jvm.Cond.soleField "GroupJournalModel" "mostAsked") ∈ lw_all := lw_g (lw_at lw_m14 111 rfl) rfl
theorem q3419 : (Jvm.Cond.laysFinal "GroupJournalModel" "GroupJournalModel" "leastAsked" "[C") ∈ lw_all := lw_g (lw_at lw_m14 112 rfl) rfl
theorem q3420 : (Jvm.Cond.soleField "GroupJournalModel" "leastAsked") ∈ lw_all := lw_g (lw_at lw_m14 113 rfl) rfl
theorem q3421 : (Jvm.Cond.laysFinal "GroupJournalModel" "GroupJournalModel" "notAsked" "[C") ∈ lw_all := lw_g (lw_at lw_m14 114 rfl) rfl
theorem q3422 : (Jvm.Cond.soleField "GroupJournalModel" "notAsked") ∈ lw_all := lw_g (lw_at lw_m14 115 rfl) rfl
theorem q3423 : (Jvm.Cond.laysFinal "GroupJournalModel" "GroupJournalModel" "andAsked" "[C") ∈ lw_all := lw_g (lw_at lw_m14 116 rfl) rfl
theorem q3424 : (Jvm.Cond.soleField "GroupJournalModel" "andAsked") ∈ lw_all := lw_g (lw_at lw_m14 117 rfl) rfl
theorem q3425 : (Jvm.Cond.laysFinal "GroupJournalModel" "GroupJournalModel" "orAsked" "[C") ∈ lw_all := lw_g (lw_at lw_m14 118 rfl) rfl
theorem q3426 : (Jvm.Cond.soleField "GroupJournalModel" "orAsked") ∈ lw_all := lw_g (lw_at lw_m14 119 rfl) rfl
theorem q3427 : (Jvm.Cond.laysFinal "GroupJournalModel" "GroupJournalModel" "allAsked" "[C") ∈ lw_all := lw_g (lw_at lw_m14 120 rfl) rfl
theorem q3428 : (Jvm.Cond.soleField "GroupJournalModel" "allAsked") ∈ lw_all := lw_g (lw_at lw_m14 121 rfl) rfl
theorem q3429 : (Jvm.Cond.laysFinal "GroupJournalModel" "GroupJournalModel" "minAsked" "[C") ∈ lw_all := lw_g (lw_at lw_m14 122 rfl) rfl
theorem q3430 : (Jvm.Cond.soleField "GroupJournalModel" "minAsked") ∈ lw_all := lw_g (lw_at lw_m14 123 rfl) rfl
theorem q3431 : (Jvm.Cond.laysFinal "GroupJournalModel" "GroupJournalModel" "maxAsked" "[C") ∈ lw_all := lw_g (lw_at lw_m14 124 rfl) rfl
theorem q3432 : (Jvm.Cond.soleField "GroupJournalModel" "maxAsked") ∈ lw_all := lw_g (lw_at lw_m14 125 rfl) rfl
theorem q3433 : (Jvm.Cond.laysFinal "GroupJournalModel" "GroupJournalModel" "tickAsked" "[C") ∈ lw_all := lw_g (lw_at lw_m14 126 rfl) rfl
theorem q3434 : (Jvm.Cond.soleField "GroupJournalModel" "tickAsked") ∈ lw_all := lw_g (lw_at lw_m14 127 rfl) rfl
theorem q3435 : (Jvm.Cond.laysFinal "GroupJournalModel" "GroupJournalModel" "recordsAsked" "[C") ∈ lw_all := lw_g (lw_at lw_m14 128 rfl) rfl
theorem q3436 : (Jvm.Cond.soleField "GroupJournalModel" "recordsAsked") ∈ lw_all := lw_g (lw_at lw_m14 129 rfl) rfl
theorem q3437 : (Jvm.Cond.laysFinal "GroupJournalModel" "GroupJournalModel" "payloadAsked" "[C") ∈ lw_all := lw_g (lw_at lw_m14 130 rfl) rfl
theorem q3438 : (Jvm.Cond.soleField "GroupJournalModel" "payloadAsked") ∈ lw_all := lw_g (lw_at lw_m14 131 rfl) rfl
theorem q3439 : (Jvm.Cond.laysFinal "GroupJournalModel" "GroupJournalModel" "ageAsked" "[C") ∈ lw_all := lw_g (lw_at lw_m14 132 rfl) rfl
theorem q3440 : (Jvm.Cond.soleField "GroupJournalModel" "ageAsked") ∈ lw_all := lw_g (lw_at lw_m14 133 rfl) rfl
theorem q3441 : (Jvm.Cond.laysFinal "GroupJournalModel" "GroupJournalModel" "waitersAsked" "[C") ∈ lw_all := lw_g (lw_at lw_m14 134 rfl) rfl
theorem q3442 : (Jvm.Cond.soleField "GroupJournalModel" "waitersAsked") ∈ lw_all := lw_g (lw_at lw_m14 135 rfl) rfl
theorem q3443 : (Jvm.Cond.laysFinal "GroupJournalModel" "GroupJournalModel" "numberAsked" "[C") ∈ lw_all := lw_g (lw_at lw_m14 136 rfl) rfl
theorem q3444 : (Jvm.Cond.soleField "GroupJournalModel" "numberAsked") ∈ lw_all := lw_g (lw_at lw_m14 137 rfl) rfl
theorem q3445 : (Jvm.Cond.laysFinal "GroupJournalModel" "GroupJournalModel" "serialAsked" "[C") ∈ lw_all := lw_g (lw_at lw_m14 138 rfl) rfl
theorem q3446 : (Jvm.Cond.soleField "GroupJournalModel" "serialAsked") ∈ lw_all := lw_g (lw_at lw_m14 139 rfl) rfl
theorem q3447 : (Jvm.Cond.laysFinal "GroupJournalModel" "GroupJournalModel" "framesAsked" "[C") ∈ lw_all := lw_g (lw_at lw_m14 140 rfl) rfl
theorem q3448 : (Jvm.Cond.soleField "GroupJournalModel" "framesAsked") ∈ lw_all := lw_g (lw_at lw_m14 141 rfl) rfl
theorem q3449 : (Jvm.Cond.laysFinal "GroupJournalModel" "GroupJournalModel" "octetAsked" "[C") ∈ lw_all := lw_g (lw_at lw_m14 142 rfl) rfl
theorem q3450 : (Jvm.Cond.soleField "GroupJournalModel" "octetAsked") ∈ lw_all := lw_g (lw_at lw_m14 143 rfl) rfl
theorem q3451 : (Jvm.Cond.laysFinal "GroupJournalModel" "GroupJournalModel" "valueAsked" "[C") ∈ lw_all := lw_g (lw_at lw_m14 144 rfl) rfl
theorem q3452 : (Jvm.Cond.soleField "GroupJournalModel" "valueAsked") ∈ lw_all := lw_g (lw_at lw_m14 145 rfl) rfl
theorem q3453 : (Jvm.Cond.laysFinal "GroupJournalModel" "GroupJournalModel" "qCodes" "[I") ∈ lw_all := lw_g (lw_at lw_m14 146 rfl) rfl
theorem q3454 : (Jvm.Cond.soleField "GroupJournalModel" "qCodes") ∈ lw_all := lw_g (lw_at lw_m14 147 rfl) rfl
theorem q3455 : (Jvm.Cond.lays "GroupJournalModel" "GroupJournalModel" "qCoded" "I") ∈ lw_all := lw_g (lw_at lw_m14 148 rfl) rfl
theorem q3456 : (Jvm.Cond.soleField "GroupJournalModel" "qCoded") ∈ lw_all := lw_g (lw_at lw_m14 149 rfl) rfl
theorem q3457 : (Jvm.Cond.laysFinal "GroupJournalModel" "GroupJournalModel" "qWait" "[I") ∈ lw_all := lw_g (lw_at lw_m14 150 rfl) rfl
theorem q3458 : (Jvm.Cond.soleField "GroupJournalModel" "qWait") ∈ lw_all := lw_g (lw_at lw_m14 151 rfl) rfl
theorem q3459 : (Jvm.Cond.lays "GroupJournalModel" "GroupJournalModel" "qWaits" "I") ∈ lw_all := lw_g (lw_at lw_m14 152 rfl) rfl
theorem q3460 : (Jvm.Cond.soleField "GroupJournalModel" "qWaits") ∈ lw_all := lw_g (lw_at lw_m14 153 rfl) rfl
theorem q3461 : (Jvm.Cond.lays "GroupJournalModel" "GroupJournalModel" "qOpened" "I") ∈ lw_all := lw_g (lw_at lw_m14 154 rfl) rfl
theorem q3462 : (Jvm.Cond.soleField "GroupJournalModel" "qOpened") ∈ lw_all := lw_g (lw_at lw_m14 155 rfl) rfl
theorem q3463 : (Jvm.Cond.lays "GroupJournalModel" "GroupJournalModel" "qBase" "I") ∈ lw_all := lw_g (lw_at lw_m14 156 rfl) rfl
theorem q3464 : (Jvm.Cond.soleField "GroupJournalModel" "qBase") ∈ lw_all := lw_g (lw_at lw_m14 157 rfl) rfl
theorem q3465 : (Jvm.Cond.laysFinal "GroupJournalModel" "GroupJournalModel" "qPile" "[J") ∈ lw_all := lw_g (lw_at lw_m14 158 rfl) rfl
theorem q3466 : (Jvm.Cond.soleField "GroupJournalModel" "qPile") ∈ lw_all := lw_g (lw_at lw_m14 159 rfl) rfl
theorem q3467 : (Jvm.Cond.lays "GroupJournalModel" "GroupJournalModel" "qPiled" "I") ∈ lw_all := lw_g (lw_at lw_m14 160 rfl) rfl
theorem q3468 : (Jvm.Cond.soleField "GroupJournalModel" "qPiled") ∈ lw_all := lw_g (lw_at lw_m14 161 rfl) rfl
theorem q3469 : (Jvm.Cond.lays "GroupJournalModel" "GroupJournalModel" "qAnswer" "J") ∈ lw_all := lw_g (lw_at lw_m14 162 rfl) rfl
theorem q3470 : (Jvm.Cond.soleField "GroupJournalModel" "qAnswer") ∈ lw_all := lw_g (lw_at lw_m14 163 rfl) rfl
theorem q3471 : (Jvm.Cond.lays "GroupJournalModel" "GroupJournalModel" "qIsNew" "Z") ∈ lw_all := lw_g (lw_at lw_m14 164 rfl) rfl
theorem q3472 : (Jvm.Cond.soleField "GroupJournalModel" "qIsNew") ∈ lw_all := lw_g (lw_at lw_m14 165 rfl) rfl
theorem q3473 : (Jvm.Cond.laysFinal "GroupJournalModel" "GroupJournalModel" "octet" "[I") ∈ lw_all := lw_g (lw_at lw_m14 166 rfl) rfl
theorem q3474 : (Jvm.Cond.soleField "GroupJournalModel" "octet") ∈ lw_all := lw_g (lw_at lw_m14 167 rfl) rfl
theorem q3475 : (Jvm.Cond.lays "GroupJournalModel" "GroupJournalModel" "octets" "I") ∈ lw_all := lw_g (lw_at lw_m14 168 rfl) rfl
theorem q3476 : (Jvm.Cond.soleField "GroupJournalModel" "octets") ∈ lw_all := lw_g (lw_at lw_m14 169 rfl) rfl
theorem q3477 : (Jvm.Cond.superclass "GroupJournalModel" "java/lang/Object") ∈ lw_all := lw_g (lw_at lw_m14 170 rfl) rfl
theorem q3479 : (Jvm.Cond.instanceMethod ({ cls := "GroupJournalModel", name := "feed", desc := "(IIIII)I" } : Jvm.MethodName)) ∈ lw_all := lw_g (lw_at lw_m14 172 rfl) rfl
theorem q3480 : (Jvm.Cond.selects "GroupJournalModel" ({ cls := "GroupJournalModel", name := "feed", desc := "(IIIII)I" } : Jvm.MethodName) ({ cls := "GroupJournalModel", name := "feed", desc := "(IIIII)I" } : Jvm.MethodName)) ∈ lw_all := lw_g (lw_at lw_m14 173 rfl) rfl
theorem q3481 : (Jvm.Cond.code ({ cls := "GroupJournalModel", name := "feed", desc := "(IIIII)I" } : Jvm.MethodName) prog_26_method_3_code (8 : Nat) (Option.some Jvm.ClassFile.FieldType.int)) ∈ lw_all := lw_g (lw_at lw_m14 174 rfl) rfl
theorem q3483 : (Jvm.Cond.instanceMethod ({ cls := "GroupJournalModel", name := "end", desc := "(I)Z" } : Jvm.MethodName)) ∈ lw_all := lw_g (lw_at lw_m14 176 rfl) rfl
theorem q3484 : (Jvm.Cond.selects "GroupJournalModel" ({ cls := "GroupJournalModel", name := "end", desc := "(I)Z" } : Jvm.MethodName) ({ cls := "GroupJournalModel", name := "end", desc := "(I)Z" } : Jvm.MethodName)) ∈ lw_all := lw_g (lw_at lw_m14 177 rfl) rfl
theorem q3485 : (Jvm.Cond.code ({ cls := "GroupJournalModel", name := "end", desc := "(I)Z" } : Jvm.MethodName) prog_26_method_4_code (2 : Nat) (Option.some Jvm.ClassFile.FieldType.boolean)) ∈ lw_all := lw_g (lw_at lw_m14 178 rfl) rfl
theorem q3487 : (Jvm.Cond.instanceMethod ({ cls := "GroupJournalModel", name := "journal", desc := "()I" } : Jvm.MethodName)) ∈ lw_all := lw_g (lw_at lw_m14 180 rfl) rfl
theorem q3488 : (Jvm.Cond.selects "GroupJournalModel" ({ cls := "GroupJournalModel", name := "journal", desc := "()I" } : Jvm.MethodName) ({ cls := "GroupJournalModel", name := "journal", desc := "()I" } : Jvm.MethodName)) ∈ lw_all := lw_g (lw_at lw_m14 181 rfl) rfl
theorem q3489 : (Jvm.Cond.code ({ cls := "GroupJournalModel", name := "journal", desc := "()I" } : Jvm.MethodName) prog_26_method_21_code (2 : Nat) (Option.some Jvm.ClassFile.FieldType.int)) ∈ lw_all := lw_g (lw_at lw_m14 182 rfl) rfl
theorem q3490 : (Jvm.Cond.methodLink "GroupJournalModel" (324 : Nat) ({ cls := "GroupJournalModel", name := "journalTold", desc := "()V" } : Jvm.MethodName)) ∈ lw_all := lw_g (lw_at lw_m14 183 rfl) rfl
theorem q3491 : (Jvm.Cond.privateMethod ({ cls := "GroupJournalModel", name := "journalTold", desc := "()V" } : Jvm.MethodName)) ∈ lw_tbl := lw_at lw_m14 184 rfl
theorem q3492 : (Jvm.Cond.instanceMethod ({ cls := "GroupJournalModel", name := "journalTold", desc := "()V" } : Jvm.MethodName)) ∈ lw_all := lw_g (lw_at lw_m14 185 rfl) rfl
theorem q3493 : (Jvm.Cond.code ({ cls := "GroupJournalModel", name := "journalTold", desc := "()V" } : Jvm.MethodName) prog_26_method_17_code (1 : Nat) (Option.none : Option Jvm.ClassFile.FieldType)) ∈ lw_all := lw_g (lw_at lw_m14 186 rfl) rfl
theorem q3494 : (Jvm.Cond.methodLink "GroupJournalModel" (282 : Nat) ({ cls := "GroupJournalModel", name := "asks", desc := "([C)V" } : Jvm.MethodName)) ∈ lw_all := lw_g (lw_at lw_m14 187 rfl) rfl
theorem q3495 : (Jvm.Cond.privateMethod ({ cls := "GroupJournalModel", name := "asks", desc := "([C)V" } : Jvm.MethodName)) ∈ lw_tbl := lw_at lw_m14 188 rfl
theorem q3496 : (Jvm.Cond.instanceMethod ({ cls := "GroupJournalModel", name := "asks", desc := "([C)V" } : Jvm.MethodName)) ∈ lw_all := lw_g (lw_at lw_m14 189 rfl) rfl
theorem q3497 : (Jvm.Cond.code ({ cls := "GroupJournalModel", name := "asks", desc := "([C)V" } : Jvm.MethodName) prog_26_method_11_code (2 : Nat) (Option.none : Option Jvm.ClassFile.FieldType)) ∈ lw_all := lw_g (lw_at lw_m14 190 rfl) rfl
theorem q3498 : (Jvm.Cond.methodLink "GroupJournalModel" (259 : Nat) ({ cls := "GroupJournalModel", name := "takes", desc := "([C)Z" } : Jvm.MethodName)) ∈ lw_all := lw_g (lw_at lw_m14 191 rfl) rfl
theorem q3499 : (Jvm.Cond.privateMethod ({ cls := "GroupJournalModel", name := "takes", desc := "([C)Z" } : Jvm.MethodName)) ∈ lw_tbl := lw_at lw_m14 192 rfl
theorem q3500 : (Jvm.Cond.instanceMethod ({ cls := "GroupJournalModel", name := "takes", desc := "([C)Z" } : Jvm.MethodName)) ∈ lw_all := lw_g (lw_at lw_m14 193 rfl) rfl
theorem q3501 : (Jvm.Cond.code ({ cls := "GroupJournalModel", name := "takes", desc := "([C)Z" } : Jvm.MethodName) prog_26_method_10_code (2 : Nat) (Option.some Jvm.ClassFile.FieldType.boolean)) ∈ lw_all := lw_g (lw_at lw_m14 194 rfl) rfl
theorem q3502 : (Jvm.Cond.methodLink "GroupJournalModel" (255 : Nat) ({ cls := "GroupJournalModel", name := "isHere", desc := "([C)Z" } : Jvm.MethodName)) ∈ lw_all := lw_g (lw_at lw_m14 195 rfl) rfl
theorem q3503 : (Jvm.Cond.privateMethod ({ cls := "GroupJournalModel", name := "isHere", desc := "([C)Z" } : Jvm.MethodName)) ∈ lw_tbl := lw_at lw_m14 196 rfl
theorem q3504 : (Jvm.Cond.instanceMethod ({ cls := "GroupJournalModel", name := "isHere", desc := "([C)Z" } : Jvm.MethodName)) ∈ lw_all := lw_g (lw_at lw_m14 197 rfl) rfl
theorem q3505 : (Jvm.Cond.code ({ cls := "GroupJournalModel", name := "isHere", desc := "([C)Z" } : Jvm.MethodName) prog_26_method_9_code (4 : Nat) (Option.some Jvm.ClassFile.FieldType.boolean)) ∈ lw_all := lw_g (lw_at lw_m14 198 rfl) rfl
theorem q3506 : (Jvm.Cond.methodLink "GroupJournalModel" (244 : Nat) ({ cls := "GroupJournalModel", name := "look", desc := "()I" } : Jvm.MethodName)) ∈ lw_all := lw_g (lw_at lw_m14 199 rfl) rfl
theorem q3507 : (Jvm.Cond.privateMethod ({ cls := "GroupJournalModel", name := "look", desc := "()I" } : Jvm.MethodName)) ∈ lw_tbl := lw_at lw_m14 200 rfl
theorem q3508 : (Jvm.Cond.instanceMethod ({ cls := "GroupJournalModel", name := "look", desc := "()I" } : Jvm.MethodName)) ∈ lw_all := lw_g (lw_at lw_m14 201 rfl) rfl
theorem q3509 : (Jvm.Cond.code ({ cls := "GroupJournalModel", name := "look", desc := "()I" } : Jvm.MethodName) prog_26_method_8_code (1 : Nat) (Option.some Jvm.ClassFile.FieldType.int)) ∈ lw_all := lw_g (lw_at lw_m14 202 rfl) rfl
theorem q3510 : (Jvm.Cond.methodLink "GroupJournalModel" (248 : Nat) ({ cls := "GroupJournalModel", name := "isLetter", desc := "(I)Z" } : Jvm.MethodName)) ∈ lw_all := lw_g (lw_at lw_m14 203 rfl) rfl
theorem q3511 : (Jvm.Cond.static ({ cls := "GroupJournalModel", name := "isLetter", desc := "(I)Z" } : Jvm.MethodName)) ∈ lw_all := lw_g (lw_at lw_m14 204 rfl) rfl
theorem q3512 : (Jvm.Cond.code ({ cls := "GroupJournalModel", name := "isLetter", desc := "(I)Z" } : Jvm.MethodName) prog_26_method_6_code (1 : Nat) (Option.some Jvm.ClassFile.FieldType.boolean)) ∈ lw_all := lw_g (lw_at lw_m14 205 rfl) rfl
theorem q3513 : (Jvm.Cond.methodLink "GroupJournalModel" (262 : Nat) ({ cls := "GroupJournalModel", name := "fail", desc := "(II)V" } : Jvm.MethodName)) ∈ lw_all := lw_g (lw_at lw_m14 206 rfl) rfl
theorem q3514 : (Jvm.Cond.privateMethod ({ cls := "GroupJournalModel", name := "fail", desc := "(II)V" } : Jvm.MethodName)) ∈ lw_tbl := lw_at lw_m14 207 rfl
theorem q3515 : (Jvm.Cond.instanceMethod ({ cls := "GroupJournalModel", name := "fail", desc := "(II)V" } : Jvm.MethodName)) ∈ lw_all := lw_g (lw_at lw_m14 208 rfl) rfl
theorem q3516 : (Jvm.Cond.code ({ cls := "GroupJournalModel", name := "fail", desc := "(II)V" } : Jvm.MethodName) prog_26_method_5_code (3 : Nat) (Option.none : Option Jvm.ClassFile.FieldType)) ∈ lw_all := lw_g (lw_at lw_m14 209 rfl) rfl
theorem q3517 : (Jvm.Cond.methodLink "GroupJournalModel" (286 : Nat) ({ cls := "GroupJournalModel", name := "number", desc := "(II)I" } : Jvm.MethodName)) ∈ lw_all := lw_g (lw_at lw_m14 210 rfl) rfl
theorem q3518 : (Jvm.Cond.privateMethod ({ cls := "GroupJournalModel", name := "number", desc := "(II)I" } : Jvm.MethodName)) ∈ lw_tbl := lw_at lw_m14 211 rfl
theorem q3519 : (Jvm.Cond.instanceMethod ({ cls := "GroupJournalModel", name := "number", desc := "(II)I" } : Jvm.MethodName)) ∈ lw_all := lw_g (lw_at lw_m14 212 rfl) rfl
theorem q3520 : (Jvm.Cond.code ({ cls := "GroupJournalModel", name := "number", desc := "(II)I" } : Jvm.MethodName) prog_26_method_14_code (5 : Nat) (Option.some Jvm.ClassFile.FieldType.int)) ∈ lw_all := lw_g (lw_at lw_m14 213 rfl) rfl
theorem q3521 : (Jvm.Cond.methodLink "GroupJournalModel" (269 : Nat) ({ cls := "GroupJournalModel", name := "isDigit", desc := "(I)Z" } : Jvm.MethodName)) ∈ lw_all := lw_g (lw_at lw_m14 214 rfl) rfl
theorem q3522 : (Jvm.Cond.static ({ cls := "GroupJournalModel", name := "isDigit", desc := "(I)Z" } : Jvm.MethodName)) ∈ lw_all := lw_g (lw_at lw_m14 215 rfl) rfl
theorem q3523 : (Jvm.Cond.code ({ cls := "GroupJournalModel", name := "isDigit", desc := "(I)Z" } : Jvm.MethodName) prog_26_method_7_code (1 : Nat) (Option.some Jvm.ClassFile.FieldType.boolean)) ∈ lw_all := lw_g (lw_at lw_m14 216 rfl) rfl
theorem q3524 : (Jvm.Cond.methodLink "GroupJournalModel" (275 : Nat) ({ cls := "GroupJournalModel", name := "isIn", desc := "(JJJ)Z" } : Jvm.MethodName)) ∈ lw_all := lw_g (lw_at lw_m14 217 rfl) rfl
theorem q3525 : (Jvm.Cond.static ({ cls := "GroupJournalModel", name := "isIn", desc := "(JJJ)Z" } : Jvm.MethodName)) ∈ lw_all := lw_g (lw_at lw_m14 218 rfl) rfl
theorem q3526 : (Jvm.Cond.code ({ cls := "GroupJournalModel", name := "isIn", desc := "(JJJ)Z" } : Jvm.MethodName) prog_26_method_2_code (6 : Nat) (Option.some Jvm.ClassFile.FieldType.boolean)) ∈ lw_all := lw_g (lw_at lw_m14 219 rfl) rfl
theorem q3527 : (Jvm.Cond.methodLink "GroupJournalModel" (290 : Nat) ({ cls := "GroupJournalModel", name := "asksSign", desc := "(I)V" } : Jvm.MethodName)) ∈ lw_all := lw_g (lw_at lw_m14 220 rfl) rfl
theorem q3528 : (Jvm.Cond.privateMethod ({ cls := "GroupJournalModel", name := "asksSign", desc := "(I)V" } : Jvm.MethodName)) ∈ lw_tbl := lw_at lw_m14 221 rfl
theorem q3529 : (Jvm.Cond.instanceMethod ({ cls := "GroupJournalModel", name := "asksSign", desc := "(I)V" } : Jvm.MethodName)) ∈ lw_all := lw_g (lw_at lw_m14 222 rfl) rfl
theorem q3530 : (Jvm.Cond.code ({ cls := "GroupJournalModel", name := "asksSign", desc := "(I)V" } : Jvm.MethodName) prog_26_method_13_code (2 : Nat) (Option.none : Option Jvm.ClassFile.FieldType)) ∈ lw_all := lw_g (lw_at lw_m14 223 rfl) rfl
theorem q3531 : (Jvm.Cond.methodLink "GroupJournalModel" (266 : Nat) ({ cls := "GroupJournalModel", name := "takesSign", desc := "(I)Z" } : Jvm.MethodName)) ∈ lw_all := lw_g (lw_at lw_m14 224 rfl) rfl
theorem q3532 : (Jvm.Cond.privateMethod ({ cls := "GroupJournalModel", name := "takesSign", desc := "(I)Z" } : Jvm.MethodName)) ∈ lw_tbl := lw_at lw_m14 225 rfl
theorem q3533 : (Jvm.Cond.instanceMethod ({ cls := "GroupJournalModel", name := "takesSign", desc := "(I)Z" } : Jvm.MethodName)) ∈ lw_all := lw_g (lw_at lw_m14 226 rfl) rfl
theorem q3534 : (Jvm.Cond.code ({ cls := "GroupJournalModel", name := "takesSign", desc := "(I)Z" } : Jvm.MethodName) prog_26_method_12_code (2 : Nat) (Option.some Jvm.ClassFile.FieldType.boolean)) ∈ lw_all := lw_g (lw_at lw_m14 227 rfl) rfl
theorem q3535 : (Jvm.Cond.methodLink "GroupJournalModel" (327 : Nat) ({ cls := "GroupJournalModel", name := "statementTold", desc := "()V" } : Jvm.MethodName)) ∈ lw_all := lw_g (lw_at lw_m14 228 rfl) rfl
theorem q3536 : (Jvm.Cond.privateMethod ({ cls := "GroupJournalModel", name := "statementTold", desc := "()V" } : Jvm.MethodName)) ∈ lw_tbl := lw_at lw_m14 229 rfl
theorem q3537 : (Jvm.Cond.instanceMethod ({ cls := "GroupJournalModel", name := "statementTold", desc := "()V" } : Jvm.MethodName)) ∈ lw_all := lw_g (lw_at lw_m14 230 rfl) rfl
theorem q3538 : (Jvm.Cond.code ({ cls := "GroupJournalModel", name := "statementTold", desc := "()V" } : Jvm.MethodName) prog_26_method_20_code (2 : Nat) (Option.none : Option Jvm.ClassFile.FieldType)) ∈ lw_all := lw_g (lw_at lw_m14 231 rfl) rfl
theorem q3539 : (Jvm.Cond.methodLink "GroupJournalModel" (318 : Nat) ({ cls := "GroupJournalModel", name := "putTold", desc := "()V" } : Jvm.MethodName)) ∈ lw_all := lw_g (lw_at lw_m14 232 rfl) rfl
theorem q3540 : (Jvm.Cond.privateMethod ({ cls := "GroupJournalModel", name := "putTold", desc := "()V" } : Jvm.MethodName)) ∈ lw_tbl := lw_at lw_m14 233 rfl
theorem q3541 : (Jvm.Cond.instanceMethod ({ cls := "GroupJournalModel", name := "putTold", desc := "()V" } : Jvm.MethodName)) ∈ lw_all := lw_g (lw_at lw_m14 234 rfl) rfl
theorem q3542 : (Jvm.Cond.code ({ cls := "GroupJournalModel", name := "putTold", desc := "()V" } : Jvm.MethodName) prog_26_method_18_code (4 : Nat) (Option.none : Option Jvm.ClassFile.FieldType)) ∈ lw_all := lw_g (lw_at lw_m14 235 rfl) rfl
theorem q3543 : (Jvm.Cond.methodLink "GroupJournalModel" (321 : Nat) ({ cls := "GroupJournalModel", name := "codesTold", desc := "(II)V" } : Jvm.MethodName)) ∈ lw_all := lw_g (lw_at lw_m14 236 rfl) rfl
theorem q3544 : (Jvm.Cond.privateMethod ({ cls := "GroupJournalModel", name := "codesTold", desc := "(II)V" } : Jvm.MethodName)) ∈ lw_tbl := lw_at lw_m14 237 rfl
theorem q3545 : (Jvm.Cond.instanceMethod ({ cls := "GroupJournalModel", name := "codesTold", desc := "(II)V" } : Jvm.MethodName)) ∈ lw_all := lw_g (lw_at lw_m14 238 rfl) rfl
theorem q3546 : (Jvm.Cond.code ({ cls := "GroupJournalModel", name := "codesTold", desc := "(II)V" } : Jvm.MethodName) prog_26_method_19_code (4 : Nat) (Option.none : Option Jvm.ClassFile.FieldType)) ∈ lw_all := lw_g (lw_at lw_m14 239 rfl) rfl
theorem q3547 : (Jvm.Cond.methodLink "GroupJournalModel" (306 : Nat) ({ cls := "GroupJournalModel", name := "qTest", desc := "()V" } : Jvm.MethodName)) ∈ lw_all := lw_g (lw_at lw_m15 0 rfl) rfl
theorem q3548 : (Jvm.Cond.privateMethod ({ cls := "GroupJournalModel", name := "qTest", desc := "()V" } : Jvm.MethodName)) ∈ lw_tbl := lw_at lw_m15 1 rfl
theorem q3549 : (Jvm.Cond.instanceMethod ({ cls := "GroupJournalModel", name := "qTest", desc := "()V" } : Jvm.MethodName)) ∈ lw_all := lw_g (lw_at lw_m15 2 rfl) rfl
theorem q3550 : (Jvm.Cond.code ({ cls := "GroupJournalModel", name := "qTest", desc := "()V" } : Jvm.MethodName) prog_26_method_140_code (3 : Nat) (Option.none : Option Jvm.ClassFile.FieldType)) ∈ lw_all := lw_g (lw_at lw_m15 3 rfl) rfl
theorem q3551 : (Jvm.Cond.methodLink "GroupJournalModel" (674 : Nat) ({ cls := "GroupJournalModel", name := "qOpens", desc := "(II)V" } : Jvm.MethodName)) ∈ lw_all := lw_g (lw_at lw_m15 4 rfl) rfl
theorem q3552 : (Jvm.Cond.privateMethod ({ cls := "GroupJournalModel", name := "qOpens", desc := "(II)V" } : Jvm.MethodName)) ∈ lw_tbl := lw_at lw_m15 5 rfl
theorem q3553 : (Jvm.Cond.instanceMethod ({ cls := "GroupJournalModel", name := "qOpens", desc := "(II)V" } : Jvm.MethodName)) ∈ lw_all := lw_g (lw_at lw_m15 6 rfl) rfl
theorem q3554 : (Jvm.Cond.code ({ cls := "GroupJournalModel", name := "qOpens", desc := "(II)V" } : Jvm.MethodName) prog_26_method_124_code (3 : Nat) (Option.none : Option Jvm.ClassFile.FieldType)) ∈ lw_all := lw_g (lw_at lw_m15 7 rfl) rfl
theorem q3555 : (Jvm.Cond.methodLink "GroupJournalModel" (698 : Nat) ({ cls := "GroupJournalModel", name := "qFact", desc := "()V" } : Jvm.MethodName)) ∈ lw_all := lw_g (lw_at lw_m15 8 rfl) rfl
theorem q3556 : (Jvm.Cond.privateMethod ({ cls := "GroupJournalModel", name := "qFact", desc := "()V" } : Jvm.MethodName)) ∈ lw_tbl := lw_at lw_m15 9 rfl
theorem q3557 : (Jvm.Cond.instanceMethod ({ cls := "GroupJournalModel", name := "qFact", desc := "()V" } : Jvm.MethodName)) ∈ lw_all := lw_g (lw_at lw_m15 10 rfl) rfl
theorem q3558 : (Jvm.Cond.code ({ cls := "GroupJournalModel", name := "qFact", desc := "()V" } : Jvm.MethodName) prog_26_method_137_code (2 : Nat) (Option.none : Option Jvm.ClassFile.FieldType)) ∈ lw_all := lw_g (lw_at lw_m15 11 rfl) rfl
theorem q3559 : (Jvm.Cond.methodLink "GroupJournalModel" (656 : Nat) ({ cls := "GroupJournalModel", name := "qCode", desc := "(I)V" } : Jvm.MethodName)) ∈ lw_all := lw_g (lw_at lw_m15 12 rfl) rfl
theorem q3560 : (Jvm.Cond.privateMethod ({ cls := "GroupJournalModel", name := "qCode", desc := "(I)V" } : Jvm.MethodName)) ∈ lw_tbl := lw_at lw_m15 13 rfl
theorem q3561 : (Jvm.Cond.instanceMethod ({ cls := "GroupJournalModel", name := "qCode", desc := "(I)V" } : Jvm.MethodName)) ∈ lw_all := lw_g (lw_at lw_m15 14 rfl) rfl
theorem q3562 : (Jvm.Cond.code ({ cls := "GroupJournalModel", name := "qCode", desc := "(I)V" } : Jvm.MethodName) prog_26_method_123_code (2 : Nat) (Option.none : Option Jvm.ClassFile.FieldType)) ∈ lw_all := lw_g (lw_at lw_m15 15 rfl) rfl
theorem q3563 : (Jvm.Cond.methodLink "GroupJournalModel" (309 : Nat) ({ cls := "GroupJournalModel", name := "qSums", desc := "()V" } : Jvm.MethodName)) ∈ lw_all := lw_g (lw_at lw_m15 16 rfl) rfl
theorem q3564 : (Jvm.Cond.privateMethod ({ cls := "GroupJournalModel", name := "qSums", desc := "()V" } : Jvm.MethodName)) ∈ lw_tbl := lw_at lw_m15 17 rfl
theorem q3565 : (Jvm.Cond.instanceMethod ({ cls := "GroupJournalModel", name := "qSums", desc := "()V" } : Jvm.MethodName)) ∈ lw_all := lw_g (lw_at lw_m15 18 rfl) rfl
theorem q3566 : (Jvm.Cond.code ({ cls := "GroupJournalModel", name := "qSums", desc := "()V" } : Jvm.MethodName) prog_26_method_136_code (3 : Nat) (Option.none : Option Jvm.ClassFile.FieldType)) ∈ lw_all := lw_g (lw_at lw_m15 19 rfl) rfl
theorem q3567 : (Jvm.Cond.methodLink "GroupJournalModel" (692 : Nat) ({ cls := "GroupJournalModel", name := "qPartTold", desc := "()V" } : Jvm.MethodName)) ∈ lw_all := lw_g (lw_at lw_m15 20 rfl) rfl
theorem q3568 : (Jvm.Cond.privateMethod ({ cls := "GroupJournalModel", name := "qPartTold", desc := "()V" } : Jvm.MethodName)) ∈ lw_tbl := lw_at lw_m15 21 rfl
theorem q3569 : (Jvm.Cond.instanceMethod ({ cls := "GroupJournalModel", name := "qPartTold", desc := "()V" } : Jvm.MethodName)) ∈ lw_all := lw_g (lw_at lw_m15 22 rfl) rfl
theorem q3570 : (Jvm.Cond.code ({ cls := "GroupJournalModel", name := "qPartTold", desc := "()V" } : Jvm.MethodName) prog_26_method_134_code (6 : Nat) (Option.none : Option Jvm.ClassFile.FieldType)) ∈ lw_all := lw_g (lw_at lw_m15 23 rfl) rfl
theorem q3571 : (Jvm.Cond.methodLink "GroupJournalModel" (671 : Nat) ({ cls := "GroupJournalModel", name := "qWordOf", desc := "(II)I" } : Jvm.MethodName)) ∈ lw_all := lw_g (lw_at lw_m15 24 rfl) rfl
theorem q3572 : (Jvm.Cond.privateMethod ({ cls := "GroupJournalModel", name := "qWordOf", desc := "(II)I" } : Jvm.MethodName)) ∈ lw_tbl := lw_at lw_m15 25 rfl
theorem q3573 : (Jvm.Cond.instanceMethod ({ cls := "GroupJournalModel", name := "qWordOf", desc := "(II)I" } : Jvm.MethodName)) ∈ lw_all := lw_g (lw_at lw_m15 26 rfl) rfl
theorem q3574 : (Jvm.Cond.code ({ cls := "GroupJournalModel", name := "qWordOf", desc := "(II)I" } : Jvm.MethodName) prog_26_method_131_code (4 : Nat) (Option.some Jvm.ClassFile.FieldType.int)) ∈ lw_all := lw_g (lw_at lw_m15 27 rfl) rfl
theorem q3575 : (Jvm.Cond.methodLink "GroupJournalModel" (665 : Nat) ({ cls := "GroupJournalModel", name := "qWordHere", desc := "()I" } : Jvm.MethodName)) ∈ lw_all := lw_g (lw_at lw_m15 28 rfl) rfl
theorem q3576 : (Jvm.Cond.privateMethod ({ cls := "GroupJournalModel", name := "qWordHere", desc := "()I" } : Jvm.MethodName)) ∈ lw_tbl := lw_at lw_m15 29 rfl
theorem q3577 : (Jvm.Cond.instanceMethod ({ cls := "GroupJournalModel", name := "qWordHere", desc := "()I" } : Jvm.MethodName)) ∈ lw_all := lw_g (lw_at lw_m15 30 rfl) rfl
theorem q3578 : (Jvm.Cond.code ({ cls := "GroupJournalModel", name := "qWordHere", desc := "()I" } : Jvm.MethodName) prog_26_method_130_code (1 : Nat) (Option.some Jvm.ClassFile.FieldType.int)) ∈ lw_all := lw_g (lw_at lw_m15 31 rfl) rfl
theorem q3579 : (Jvm.Cond.methodLink "GroupJournalModel" (668 : Nat) ({ cls := "GroupJournalModel", name := "isAllowed", desc := "(I)Z" } : Jvm.MethodName)) ∈ lw_all := lw_g (lw_at lw_m15 32 rfl) rfl
theorem q3580 : (Jvm.Cond.privateMethod ({ cls := "GroupJournalModel", name := "isAllowed", desc := "(I)Z" } : Jvm.MethodName)) ∈ lw_tbl := lw_at lw_m15 33 rfl
theorem q3581 : (Jvm.Cond.instanceMethod ({ cls := "GroupJournalModel", name := "isAllowed", desc := "(I)Z" } : Jvm.MethodName)) ∈ lw_all := lw_g (lw_at lw_m15 34 rfl) rfl
theorem q3582 : (Jvm.Cond.code ({ cls := "GroupJournalModel", name := "isAllowed", desc := "(I)Z" } : Jvm.MethodName) prog_26_method_16_code (2 : Nat) (Option.some Jvm.ClassFile.FieldType.boolean)) ∈ lw_all := lw_g (lw_at lw_m15 35 rfl) rfl
theorem q3583 : (Jvm.Cond.methodLink "GroupJournalModel" (677 : Nat) ({ cls := "GroupJournalModel", name := "qAsksWord", desc := "(I)V" } : Jvm.MethodName)) ∈ lw_all := lw_g (lw_at lw_m15 36 rfl) rfl
theorem q3584 : (Jvm.Cond.privateMethod ({ cls := "GroupJournalModel", name := "qAsksWord", desc := "(I)V" } : Jvm.MethodName)) ∈ lw_tbl := lw_at lw_m15 37 rfl
theorem q3585 : (Jvm.Cond.instanceMethod ({ cls := "GroupJournalModel", name := "qAsksWord", desc := "(I)V" } : Jvm.MethodName)) ∈ lw_all := lw_g (lw_at lw_m15 38 rfl) rfl
theorem q3586 : (Jvm.Cond.code ({ cls := "GroupJournalModel", name := "qAsksWord", desc := "(I)V" } : Jvm.MethodName) prog_26_method_132_code (2 : Nat) (Option.none : Option Jvm.ClassFile.FieldType)) ∈ lw_all := lw_g (lw_at lw_m15 39 rfl) rfl
theorem q3587 : (Jvm.Cond.methodLink "GroupJournalModel" (680 : Nat) ({ cls := "GroupJournalModel", name := "qEndsPart", desc := "()V" } : Jvm.MethodName)) ∈ lw_all := lw_g (lw_at lw_m15 40 rfl) rfl
theorem q3588 : (Jvm.Cond.privateMethod ({ cls := "GroupJournalModel", name := "qEndsPart", desc := "()V" } : Jvm.MethodName)) ∈ lw_tbl := lw_at lw_m15 41 rfl
theorem q3589 : (Jvm.Cond.instanceMethod ({ cls := "GroupJournalModel", name := "qEndsPart", desc := "()V" } : Jvm.MethodName)) ∈ lw_all := lw_g (lw_at lw_m15 42 rfl) rfl
theorem q3590 : (Jvm.Cond.code ({ cls := "GroupJournalModel", name := "qEndsPart", desc := "()V" } : Jvm.MethodName) prog_26_method_133_code (1 : Nat) (Option.none : Option Jvm.ClassFile.FieldType)) ∈ lw_all := lw_g (lw_at lw_m15 43 rfl) rfl
theorem q3591 : (Jvm.Cond.methodLink "GroupJournalModel" (662 : Nat) ({ cls := "GroupJournalModel", name := "qDrops", desc := "()V" } : Jvm.MethodName)) ∈ lw_all := lw_g (lw_at lw_m15 44 rfl) rfl
theorem q3592 : (Jvm.Cond.privateMethod ({ cls := "GroupJournalModel", name := "qDrops", desc := "()V" } : Jvm.MethodName)) ∈ lw_tbl := lw_at lw_m15 45 rfl
theorem q3593 : (Jvm.Cond.instanceMethod ({ cls := "GroupJournalModel", name := "qDrops", desc := "()V" } : Jvm.MethodName)) ∈ lw_all := lw_g (lw_at lw_m15 46 rfl) rfl
theorem q3594 : (Jvm.Cond.code ({ cls := "GroupJournalModel", name := "qDrops", desc := "()V" } : Jvm.MethodName) prog_26_method_126_code (1 : Nat) (Option.none : Option Jvm.ClassFile.FieldType)) ∈ lw_all := lw_g (lw_at lw_m15 47 rfl) rfl
theorem q3595 : (Jvm.Cond.methodLink "GroupJournalModel" (695 : Nat) ({ cls := "GroupJournalModel", name := "qGoesOn", desc := "()Z" } : Jvm.MethodName)) ∈ lw_all := lw_g (lw_at lw_m15 48 rfl) rfl
theorem q3596 : (Jvm.Cond.privateMethod ({ cls := "GroupJournalModel", name := "qGoesOn", desc := "()Z" } : Jvm.MethodName)) ∈ lw_tbl := lw_at lw_m15 49 rfl
theorem q3597 : (Jvm.Cond.instanceMethod ({ cls := "GroupJournalModel", name := "qGoesOn", desc := "()Z" } : Jvm.MethodName)) ∈ lw_all := lw_g (lw_at lw_m15 50 rfl) rfl
theorem q3598 : (Jvm.Cond.code ({ cls := "GroupJournalModel", name := "qGoesOn", desc := "()Z" } : Jvm.MethodName) prog_26_method_135_code (2 : Nat) (Option.some Jvm.ClassFile.FieldType.boolean)) ∈ lw_all := lw_g (lw_at lw_m15 51 rfl) rfl
theorem q3599 : (Jvm.Cond.methodLink "GroupJournalModel" (683 : Nat) ({ cls := "GroupJournalModel", name := "qBracket", desc := "()I" } : Jvm.MethodName)) ∈ lw_all := lw_g (lw_at lw_m15 52 rfl) rfl
theorem q3600 : (Jvm.Cond.privateMethod ({ cls := "GroupJournalModel", name := "qBracket", desc := "()I" } : Jvm.MethodName)) ∈ lw_tbl := lw_at lw_m15 53 rfl
theorem q3601 : (Jvm.Cond.instanceMethod ({ cls := "GroupJournalModel", name := "qBracket", desc := "()I" } : Jvm.MethodName)) ∈ lw_all := lw_g (lw_at lw_m15 54 rfl) rfl
theorem q3602 : (Jvm.Cond.code ({ cls := "GroupJournalModel", name := "qBracket", desc := "()I" } : Jvm.MethodName) prog_26_method_128_code (2 : Nat) (Option.some Jvm.ClassFile.FieldType.int)) ∈ lw_all := lw_g (lw_at lw_m15 55 rfl) rfl
theorem q3603 : (Jvm.Cond.methodLink "GroupJournalModel" (659 : Nat) ({ cls := "GroupJournalModel", name := "qIsBracket", desc := "(I)Z" } : Jvm.MethodName)) ∈ lw_all := lw_g (lw_at lw_m15 56 rfl) rfl
theorem q3604 : (Jvm.Cond.static ({ cls := "GroupJournalModel", name := "qIsBracket", desc := "(I)Z" } : Jvm.MethodName)) ∈ lw_all := lw_g (lw_at lw_m15 57 rfl) rfl
theorem q3605 : (Jvm.Cond.code ({ cls := "GroupJournalModel", name := "qIsBracket", desc := "(I)Z" } : Jvm.MethodName) prog_26_method_127_code (1 : Nat) (Option.some Jvm.ClassFile.FieldType.boolean)) ∈ lw_all := lw_g (lw_at lw_m15 58 rfl) rfl
theorem q3606 : (Jvm.Cond.methodLink "GroupJournalModel" (686 : Nat) ({ cls := "GroupJournalModel", name := "qDropsToBracket", desc := "()V" } : Jvm.MethodName)) ∈ lw_all := lw_g (lw_at lw_m15 59 rfl) rfl
theorem q3607 : (Jvm.Cond.privateMethod ({ cls := "GroupJournalModel", name := "qDropsToBracket", desc := "()V" } : Jvm.MethodName)) ∈ lw_tbl := lw_at lw_m15 60 rfl
theorem q3608 : (Jvm.Cond.instanceMethod ({ cls := "GroupJournalModel", name := "qDropsToBracket", desc := "()V" } : Jvm.MethodName)) ∈ lw_all := lw_g (lw_at lw_m15 61 rfl) rfl
theorem q3609 : (Jvm.Cond.code ({ cls := "GroupJournalModel", name := "qDropsToBracket", desc := "()V" } : Jvm.MethodName) prog_26_method_129_code (1 : Nat) (Option.none : Option Jvm.ClassFile.FieldType)) ∈ lw_all := lw_g (lw_at lw_m15 62 rfl) rfl
theorem q3610 : (Jvm.Cond.methodLink "GroupJournalModel" (689 : Nat) ({ cls := "GroupJournalModel", name := "qIsOn", desc := "(I)Z" } : Jvm.MethodName)) ∈ lw_all := lw_g (lw_at lw_m15 63 rfl) rfl
theorem q3611 : (Jvm.Cond.privateMethod ({ cls := "GroupJournalModel", name := "qIsOn", desc := "(I)Z" } : Jvm.MethodName)) ∈ lw_tbl := lw_at lw_m15 64 rfl
theorem q3612 : (Jvm.Cond.instanceMethod ({ cls := "GroupJournalModel", name := "qIsOn", desc := "(I)Z" } : Jvm.MethodName)) ∈ lw_all := lw_g (lw_at lw_m15 65 rfl) rfl
theorem q3613 : (Jvm.Cond.code ({ cls := "GroupJournalModel", name := "qIsOn", desc := "(I)Z" } : Jvm.MethodName) prog_26_method_125_code (2 : Nat) (Option.some Jvm.ClassFile.FieldType.boolean)) ∈ lw_all := lw_g (lw_at lw_m15 66 rfl) rfl
theorem q3614 : (Jvm.Cond.methodLink "GroupJournalModel" (701 : Nat) ({ cls := "GroupJournalModel", name := "qDropsNots", desc := "()V" } : Jvm.MethodName)) ∈ lw_all := lw_g (lw_at lw_m15 67 rfl) rfl
theorem q3615 : (Jvm.Cond.privateMethod ({ cls := "GroupJournalModel", name := "qDropsNots", desc := "()V" } : Jvm.MethodName)) ∈ lw_tbl := lw_at lw_m15 68 rfl
theorem q3616 : (Jvm.Cond.instanceMethod ({ cls := "GroupJournalModel", name := "qDropsNots", desc := "()V" } : Jvm.MethodName)) ∈ lw_all := lw_g (lw_at lw_m15 69 rfl) rfl
theorem q3617 : (Jvm.Cond.code ({ cls := "GroupJournalModel", name := "qDropsNots", desc := "()V" } : Jvm.MethodName) prog_26_method_139_code (1 : Nat) (Option.none : Option Jvm.ClassFile.FieldType)) ∈ lw_all := lw_g (lw_at lw_m15 70 rfl) rfl
theorem q3618 : (Jvm.Cond.methodLink "GroupJournalModel" (704 : Nat) ({ cls := "GroupJournalModel", name := "qGoesOnTest", desc := "()Z" } : Jvm.MethodName)) ∈ lw_all := lw_g (lw_at lw_m15 71 rfl) rfl
theorem q3619 : (Jvm.Cond.privateMethod ({ cls := "GroupJournalModel", name := "qGoesOnTest", desc := "()Z" } : Jvm.MethodName)) ∈ lw_tbl := lw_at lw_m15 72 rfl
theorem q3620 : (Jvm.Cond.instanceMethod ({ cls := "GroupJournalModel", name := "qGoesOnTest", desc := "()Z" } : Jvm.MethodName)) ∈ lw_all := lw_g (lw_at lw_m15 73 rfl) rfl
theorem q3621 : (Jvm.Cond.code ({ cls := "GroupJournalModel", name := "qGoesOnTest", desc := "()Z" } : Jvm.MethodName) prog_26_method_141_code (1 : Nat) (Option.some Jvm.ClassFile.FieldType.boolean)) ∈ lw_all := lw_g (lw_at lw_m15 74 rfl) rfl
theorem q3622 : (Jvm.Cond.methodLink "GroupJournalModel" (707 : Nat) ({ cls := "GroupJournalModel", name := "qHasSquare", desc := "()Z" } : Jvm.MethodName)) ∈ lw_all := lw_g (lw_at lw_m15 75 rfl) rfl
theorem q3623 : (Jvm.Cond.privateMethod ({ cls := "GroupJournalModel", name := "qHasSquare", desc := "()Z" } : Jvm.MethodName)) ∈ lw_tbl := lw_at lw_m15 76 rfl
theorem q3624 : (Jvm.Cond.instanceMethod ({ cls := "GroupJournalModel", name := "qHasSquare", desc := "()Z" } : Jvm.MethodName)) ∈ lw_all := lw_g (lw_at lw_m15 77 rfl) rfl
theorem q3625 : (Jvm.Cond.code ({ cls := "GroupJournalModel", name := "qHasSquare", desc := "()Z" } : Jvm.MethodName) prog_26_method_138_code (2 : Nat) (Option.some Jvm.ClassFile.FieldType.boolean)) ∈ lw_all := lw_g (lw_at lw_m15 78 rfl) rfl
theorem q3626 : (Jvm.Cond.methodLink "GroupJournalModel" (333 : Nat) ({ cls := "GroupJournalModel", name := "refuses", desc := "(I)I" } : Jvm.MethodName)) ∈ lw_all := lw_g (lw_at lw_m15 79 rfl) rfl
theorem q3627 : (Jvm.Cond.privateMethod ({ cls := "GroupJournalModel", name := "refuses", desc := "(I)I" } : Jvm.MethodName)) ∈ lw_tbl := lw_at lw_m15 80 rfl
theorem q3628 : (Jvm.Cond.instanceMethod ({ cls := "GroupJournalModel", name := "refuses", desc := "(I)I" } : Jvm.MethodName)) ∈ lw_all := lw_g (lw_at lw_m15 81 rfl) rfl
theorem q3629 : (Jvm.Cond.code ({ cls := "GroupJournalModel", name := "refuses", desc := "(I)I" } : Jvm.MethodName) prog_26_method_109_code (2 : Nat) (Option.some Jvm.ClassFile.FieldType.int)) ∈ lw_all := lw_g (lw_at lw_m15 82 rfl) rfl
theorem q3630 : (Jvm.Cond.methodLink "GroupJournalModel" (337 : Nat) ({ cls := "GroupJournalModel", name := "stands", desc := "()V" } : Jvm.MethodName)) ∈ lw_all := lw_g (lw_at lw_m15 83 rfl) rfl
theorem q3631 : (Jvm.Cond.privateMethod ({ cls := "GroupJournalModel", name := "stands", desc := "()V" } : Jvm.MethodName)) ∈ lw_tbl := lw_at lw_m15 84 rfl
theorem q3632 : (Jvm.Cond.instanceMethod ({ cls := "GroupJournalModel", name := "stands", desc := "()V" } : Jvm.MethodName)) ∈ lw_all := lw_g (lw_at lw_m15 85 rfl) rfl
theorem q3633 : (Jvm.Cond.code ({ cls := "GroupJournalModel", name := "stands", desc := "()V" } : Jvm.MethodName) prog_26_method_22_code (2 : Nat) (Option.none : Option Jvm.ClassFile.FieldType)) ∈ lw_all := lw_g (lw_at lw_m15 86 rfl) rfl
theorem q3634 : (Jvm.Cond.methodLink "GroupJournalModel" (344 : Nat) ({ cls := "GroupJournalModel", name := "opensOnDisk", desc := "(II)V" } : Jvm.MethodName)) ∈ lw_all := lw_g (lw_at lw_m15 87 rfl) rfl
theorem q3635 : (Jvm.Cond.privateMethod ({ cls := "GroupJournalModel", name := "opensOnDisk", desc := "(II)V" } : Jvm.MethodName)) ∈ lw_tbl := lw_at lw_m15 88 rfl
theorem q3636 : (Jvm.Cond.instanceMethod ({ cls := "GroupJournalModel", name := "opensOnDisk", desc := "(II)V" } : Jvm.MethodName)) ∈ lw_all := lw_g (lw_at lw_m15 89 rfl) rfl
theorem q3637 : (Jvm.Cond.code ({ cls := "GroupJournalModel", name := "opensOnDisk", desc := "(II)V" } : Jvm.MethodName) prog_26_method_40_code (4 : Nat) (Option.none : Option Jvm.ClassFile.FieldType)) ∈ lw_all := lw_g (lw_at lw_m15 90 rfl) rfl
theorem q3638 : (Jvm.Cond.methodLink "GroupJournalModel" (387 : Nat) ({ cls := "GroupJournalModel", name := "opens", desc := "(I)V" } : Jvm.MethodName)) ∈ lw_all := lw_g (lw_at lw_m15 91 rfl) rfl
theorem q3639 : (Jvm.Cond.privateMethod ({ cls := "GroupJournalModel", name := "opens", desc := "(I)V" } : Jvm.MethodName)) ∈ lw_tbl := lw_at lw_m15 92 rfl
theorem q3640 : (Jvm.Cond.instanceMethod ({ cls := "GroupJournalModel", name := "opens", desc := "(I)V" } : Jvm.MethodName)) ∈ lw_all := lw_g (lw_at lw_m15 93 rfl) rfl
theorem q3641 : (Jvm.Cond.code ({ cls := "GroupJournalModel", name := "opens", desc := "(I)V" } : Jvm.MethodName) prog_26_method_39_code (2 : Nat) (Option.none : Option Jvm.ClassFile.FieldType)) ∈ lw_all := lw_g (lw_at lw_m15 94 rfl) rfl
theorem q3642 : (Jvm.Cond.methodLink "GroupJournalModel" (390 : Nat) ({ cls := "GroupJournalModel", name := "headByte", desc := "(III)I" } : Jvm.MethodName)) ∈ lw_all := lw_g (lw_at lw_m15 95 rfl) rfl
theorem q3643 : (Jvm.Cond.privateMethod ({ cls := "GroupJournalModel", name := "headByte", desc := "(III)I" } : Jvm.MethodName)) ∈ lw_tbl := lw_at lw_m15 96 rfl
theorem q3644 : (Jvm.Cond.instanceMethod ({ cls := "GroupJournalModel", name := "headByte", desc := "(III)I" } : Jvm.MethodName)) ∈ lw_all := lw_g (lw_at lw_m15 97 rfl) rfl
theorem q3645 : (Jvm.Cond.code ({ cls := "GroupJournalModel", name := "headByte", desc := "(III)I" } : Jvm.MethodName) prog_26_method_37_code (6 : Nat) (Option.some Jvm.ClassFile.FieldType.int)) ∈ lw_all := lw_g (lw_at lw_m15 98 rfl) rfl
theorem q3646 : (Jvm.Cond.methodLink "GroupJournalModel" (380 : Nat) ({ cls := "GroupJournalModel", name := "headByteAt", desc := "(III)I" } : Jvm.MethodName)) ∈ lw_all := lw_g (lw_at lw_m15 99 rfl) rfl
theorem q3647 : (Jvm.Cond.static ({ cls := "GroupJournalModel", name := "headByteAt", desc := "(III)I" } : Jvm.MethodName)) ∈ lw_all := lw_g (lw_at lw_m15 100 rfl) rfl
theorem q3648 : (Jvm.Cond.code ({ cls := "GroupJournalModel", name := "headByteAt", desc := "(III)I" } : Jvm.MethodName) prog_26_method_38_code (3 : Nat) (Option.some Jvm.ClassFile.FieldType.int)) ∈ lw_all := lw_g (lw_at lw_m15 101 rfl) rfl
theorem q3649 : (Jvm.Cond.methodLink "GroupJournalModel" (384 : Nat) ({ cls := "GroupJournalModel", name := "checkBy", desc := "(II)I" } : Jvm.MethodName)) ∈ lw_all := lw_g (lw_at lw_m15 102 rfl) rfl
theorem q3650 : (Jvm.Cond.static ({ cls := "GroupJournalModel", name := "checkBy", desc := "(II)I" } : Jvm.MethodName)) ∈ lw_all := lw_g (lw_at lw_m15 103 rfl) rfl
theorem q3651 : (Jvm.Cond.code ({ cls := "GroupJournalModel", name := "checkBy", desc := "(II)I" } : Jvm.MethodName) prog_26_method_35_code (2 : Nat) (Option.some Jvm.ClassFile.FieldType.int)) ∈ lw_all := lw_g (lw_at lw_m15 104 rfl) rfl
theorem q3652 : (Jvm.Cond.methodLink "GroupJournalModel" (393 : Nat) ({ cls := "GroupJournalModel", name := "lands", desc := "(II)V" } : Jvm.MethodName)) ∈ lw_all := lw_g (lw_at lw_m15 105 rfl) rfl
theorem q3653 : (Jvm.Cond.privateMethod ({ cls := "GroupJournalModel", name := "lands", desc := "(II)V" } : Jvm.MethodName)) ∈ lw_tbl := lw_at lw_m15 106 rfl
theorem q3654 : (Jvm.Cond.instanceMethod ({ cls := "GroupJournalModel", name := "lands", desc := "(II)V" } : Jvm.MethodName)) ∈ lw_all := lw_g (lw_at lw_m15 107 rfl) rfl
theorem q3655 : (Jvm.Cond.code ({ cls := "GroupJournalModel", name := "lands", desc := "(II)V" } : Jvm.MethodName) prog_26_method_29_code (3 : Nat) (Option.none : Option Jvm.ClassFile.FieldType)) ∈ lw_all := lw_g (lw_at lw_m15 108 rfl) rfl
theorem q3656 : (Jvm.Cond.methodLink "GroupJournalModel" (353 : Nat) ({ cls := "GroupJournalModel", name := "canAppend", desc := "(I)Z" } : Jvm.MethodName)) ∈ lw_all := lw_g (lw_at lw_m15 109 rfl) rfl
theorem q3657 : (Jvm.Cond.privateMethod ({ cls := "GroupJournalModel", name := "canAppend", desc := "(I)Z" } : Jvm.MethodName)) ∈ lw_tbl := lw_at lw_m15 110 rfl
theorem q3658 : (Jvm.Cond.instanceMethod ({ cls := "GroupJournalModel", name := "canAppend", desc := "(I)Z" } : Jvm.MethodName)) ∈ lw_all := lw_g (lw_at lw_m15 111 rfl) rfl
theorem q3659 : (Jvm.Cond.code ({ cls := "GroupJournalModel", name := "canAppend", desc := "(I)Z" } : Jvm.MethodName) prog_26_method_111_code (2 : Nat) (Option.some Jvm.ClassFile.FieldType.boolean)) ∈ lw_all := lw_g (lw_at lw_m15 112 rfl) rfl
theorem q3660 : (Jvm.Cond.methodLink "GroupJournalModel" (423 : Nat) ({ cls := "GroupJournalModel", name := "hasRoom", desc := "(II)Z" } : Jvm.MethodName)) ∈ lw_all := lw_g (lw_at lw_m15 113 rfl) rfl
theorem q3661 : (Jvm.Cond.privateMethod ({ cls := "GroupJournalModel", name := "hasRoom", desc := "(II)Z" } : Jvm.MethodName)) ∈ lw_tbl := lw_at lw_m15 114 rfl
theorem q3662 : (Jvm.Cond.instanceMethod ({ cls := "GroupJournalModel", name := "hasRoom", desc := "(II)Z" } : Jvm.MethodName)) ∈ lw_all := lw_g (lw_at lw_m15 115 rfl) rfl
theorem q3663 : (Jvm.Cond.code ({ cls := "GroupJournalModel", name := "hasRoom", desc := "(II)Z" } : Jvm.MethodName) prog_26_method_44_code (7 : Nat) (Option.some Jvm.ClassFile.FieldType.boolean)) ∈ lw_all := lw_g (lw_at lw_m15 116 rfl) rfl
theorem q3664 : (Jvm.Cond.methodLink "GroupJournalModel" (402 : Nat) ({ cls := "GroupJournalModel", name := "length", desc := "()I" } : Jvm.MethodName)) ∈ lw_all := lw_g (lw_at lw_m15 117 rfl) rfl
theorem q3665 : (Jvm.Cond.privateMethod ({ cls := "GroupJournalModel", name := "length", desc := "()I" } : Jvm.MethodName)) ∈ lw_tbl := lw_at lw_m15 118 rfl
theorem q3666 : (Jvm.Cond.instanceMethod ({ cls := "GroupJournalModel", name := "length", desc := "()I" } : Jvm.MethodName)) ∈ lw_all := lw_g (lw_at lw_m15 119 rfl) rfl
theorem q3667 : (Jvm.Cond.code ({ cls := "GroupJournalModel", name := "length", desc := "()I" } : Jvm.MethodName) prog_26_method_26_code (1 : Nat) (Option.some Jvm.ClassFile.FieldType.int)) ∈ lw_all := lw_g (lw_at lw_m15 120 rfl) rfl
theorem q3668 : (Jvm.Cond.methodLink "GroupJournalModel" (405 : Nat) ({ cls := "GroupJournalModel", name := "blockBytes", desc := "()I" } : Jvm.MethodName)) ∈ lw_all := lw_g (lw_at lw_m15 121 rfl) rfl
theorem q3669 : (Jvm.Cond.privateMethod ({ cls := "GroupJournalModel", name := "blockBytes", desc := "()I" } : Jvm.MethodName)) ∈ lw_tbl := lw_at lw_m15 122 rfl
theorem q3670 : (Jvm.Cond.instanceMethod ({ cls := "GroupJournalModel", name := "blockBytes", desc := "()I" } : Jvm.MethodName)) ∈ lw_all := lw_g (lw_at lw_m15 123 rfl) rfl
theorem q3671 : (Jvm.Cond.code ({ cls := "GroupJournalModel", name := "blockBytes", desc := "()I" } : Jvm.MethodName) prog_26_method_25_code (1 : Nat) (Option.some Jvm.ClassFile.FieldType.int)) ∈ lw_all := lw_g (lw_at lw_m15 124 rfl) rfl
theorem q3672 : (Jvm.Cond.methodLink "GroupJournalModel" (356 : Nat) ({ cls := "GroupJournalModel", name := "appends", desc := "(III)V" } : Jvm.MethodName)) ∈ lw_all := lw_g (lw_at lw_m15 125 rfl) rfl
theorem q3673 : (Jvm.Cond.privateMethod ({ cls := "GroupJournalModel", name := "appends", desc := "(III)V" } : Jvm.MethodName)) ∈ lw_tbl := lw_at lw_m15 126 rfl
theorem q3674 : (Jvm.Cond.instanceMethod ({ cls := "GroupJournalModel", name := "appends", desc := "(III)V" } : Jvm.MethodName)) ∈ lw_all := lw_g (lw_at lw_m15 127 rfl) rfl
theorem q3675 : (Jvm.Cond.code ({ cls := "GroupJournalModel", name := "appends", desc := "(III)V" } : Jvm.MethodName) prog_26_method_112_code (5 : Nat) (Option.none : Option Jvm.ClassFile.FieldType)) ∈ lw_all := lw_g (lw_at lw_m15 128 rfl) rfl
theorem q3677 : (Jvm.Cond.instanceMethod ({ cls := "GroupJournalModel", name := "fault", desc := "(I)I" } : Jvm.MethodName)) ∈ lw_all := lw_g (lw_at lw_m15 130 rfl) rfl
theorem q3678 : (Jvm.Cond.selects "GroupJournalModel" ({ cls := "GroupJournalModel", name := "fault", desc := "(I)I" } : Jvm.MethodName) ({ cls := "GroupJournalModel", name := "fault", desc := "(I)I" } : Jvm.MethodName)) ∈ lw_all := lw_g (lw_at lw_m15 131 rfl) rfl
theorem q3679 : (Jvm.Cond.code ({ cls := "GroupJournalModel", name := "fault", desc := "(I)I" } : Jvm.MethodName) prog_26_method_23_code (2 : Nat) (Option.some Jvm.ClassFile.FieldType.int)) ∈ lw_all := lw_g (lw_at lw_m15 132 rfl) rfl
theorem q3681 : (Jvm.Cond.instanceMethod ({ cls := "GroupJournalModel", name := "has", desc := "(I)I" } : Jvm.MethodName)) ∈ lw_all := lw_g (lw_at lw_m15 134 rfl) rfl
theorem q3682 : (Jvm.Cond.selects "GroupJournalModel" ({ cls := "GroupJournalModel", name := "has", desc := "(I)I" } : Jvm.MethodName) ({ cls := "GroupJournalModel", name := "has", desc := "(I)I" } : Jvm.MethodName)) ∈ lw_all := lw_g (lw_at lw_m15 135 rfl) rfl
theorem q3683 : (Jvm.Cond.code ({ cls := "GroupJournalModel", name := "has", desc := "(I)I" } : Jvm.MethodName) prog_26_method_80_code (2 : Nat) (Option.some Jvm.ClassFile.FieldType.int)) ∈ lw_all := lw_g (lw_at lw_m15 136 rfl) rfl
theorem q3684 : (Jvm.Cond.methodLink "GroupJournalModel" (360 : Nat) ({ cls := "GroupJournalModel", name := "segmentMany", desc := "()I" } : Jvm.MethodName)) ∈ lw_all := lw_g (lw_at lw_m15 137 rfl) rfl
theorem q3685 : (Jvm.Cond.privateMethod ({ cls := "GroupJournalModel", name := "segmentMany", desc := "()I" } : Jvm.MethodName)) ∈ lw_tbl := lw_at lw_m15 138 rfl
theorem q3686 : (Jvm.Cond.instanceMethod ({ cls := "GroupJournalModel", name := "segmentMany", desc := "()I" } : Jvm.MethodName)) ∈ lw_all := lw_g (lw_at lw_m15 139 rfl) rfl
theorem q3687 : (Jvm.Cond.code ({ cls := "GroupJournalModel", name := "segmentMany", desc := "()I" } : Jvm.MethodName) prog_26_method_24_code (1 : Nat) (Option.some Jvm.ClassFile.FieldType.int)) ∈ lw_all := lw_g (lw_at lw_m15 140 rfl) rfl
theorem q3688 : (Jvm.Cond.methodLink "GroupJournalModel" (567 : Nat) ({ cls := "GroupJournalModel", name := "scarMany", desc := "()I" } : Jvm.MethodName)) ∈ lw_all := lw_g (lw_at lw_m15 141 rfl) rfl
theorem q3689 : (Jvm.Cond.privateMethod ({ cls := "GroupJournalModel", name := "scarMany", desc := "()I" } : Jvm.MethodName)) ∈ lw_tbl := lw_at lw_m15 142 rfl
theorem q3690 : (Jvm.Cond.instanceMethod ({ cls := "GroupJournalModel", name := "scarMany", desc := "()I" } : Jvm.MethodName)) ∈ lw_all := lw_g (lw_at lw_m15 143 rfl) rfl
theorem q3691 : (Jvm.Cond.code ({ cls := "GroupJournalModel", name := "scarMany", desc := "()I" } : Jvm.MethodName) prog_26_method_79_code (3 : Nat) (Option.some Jvm.ClassFile.FieldType.int)) ∈ lw_all := lw_g (lw_at lw_m15 144 rfl) rfl
theorem q3693 : (Jvm.Cond.instanceMethod ({ cls := "GroupJournalModel", name := "segment", desc := "(II)I" } : Jvm.MethodName)) ∈ lw_all := lw_g (lw_at lw_m15 146 rfl) rfl
theorem q3694 : (Jvm.Cond.selects "GroupJournalModel" ({ cls := "GroupJournalModel", name := "segment", desc := "(II)I" } : Jvm.MethodName) ({ cls := "GroupJournalModel", name := "segment", desc := "(II)I" } : Jvm.MethodName)) ∈ lw_all := lw_g (lw_at lw_m15 147 rfl) rfl
theorem q3695 : (Jvm.Cond.code ({ cls := "GroupJournalModel", name := "segment", desc := "(II)I" } : Jvm.MethodName) prog_26_method_81_code (3 : Nat) (Option.some Jvm.ClassFile.FieldType.int)) ∈ lw_all := lw_g (lw_at lw_m15 148 rfl) rfl
theorem q3696 : (Jvm.Cond.methodLink "GroupJournalModel" (570 : Nat) ({ cls := "GroupJournalModel", name := "isSegment", desc := "(I)Z" } : Jvm.MethodName)) ∈ lw_all := lw_g (lw_at lw_m15 149 rfl) rfl
theorem q3697 : (Jvm.Cond.privateMethod ({ cls := "GroupJournalModel", name := "isSegment", desc := "(I)Z" } : Jvm.MethodName)) ∈ lw_tbl := lw_at lw_m15 150 rfl
theorem q3698 : (Jvm.Cond.instanceMethod ({ cls := "GroupJournalModel", name := "isSegment", desc := "(I)Z" } : Jvm.MethodName)) ∈ lw_all := lw_g (lw_at lw_m15 151 rfl) rfl
theorem q3699 : (Jvm.Cond.code ({ cls := "GroupJournalModel", name := "isSegment", desc := "(I)Z" } : Jvm.MethodName) prog_26_method_27_code (2 : Nat) (Option.some Jvm.ClassFile.FieldType.boolean)) ∈ lw_all := lw_g (lw_at lw_m15 152 rfl) rfl
theorem q3700 : (Jvm.Cond.methodLink "GroupJournalModel" (535 : Nat) ({ cls := "GroupJournalModel", name := "isHead", desc := "(I)Z" } : Jvm.MethodName)) ∈ lw_all := lw_g (lw_at lw_m15 153 rfl) rfl
theorem q3701 : (Jvm.Cond.privateMethod ({ cls := "GroupJournalModel", name := "isHead", desc := "(I)Z" } : Jvm.MethodName)) ∈ lw_tbl := lw_at lw_m15 154 rfl
theorem q3702 : (Jvm.Cond.instanceMethod ({ cls := "GroupJournalModel", name := "isHead", desc := "(I)Z" } : Jvm.MethodName)) ∈ lw_all := lw_g (lw_at lw_m15 155 rfl) rfl
theorem q3703 : (Jvm.Cond.code ({ cls := "GroupJournalModel", name := "isHead", desc := "(I)Z" } : Jvm.MethodName) prog_26_method_64_code (4 : Nat) (Option.some Jvm.ClassFile.FieldType.boolean)) ∈ lw_all := lw_g (lw_at lw_m15 156 rfl) rfl
theorem q3704 : (Jvm.Cond.methodLink "GroupJournalModel" (494 : Nat) ({ cls := "GroupJournalModel", name := "diskAt", desc := "(II)I" } : Jvm.MethodName)) ∈ lw_all := lw_g (lw_at lw_m15 157 rfl) rfl
theorem q3705 : (Jvm.Cond.privateMethod ({ cls := "GroupJournalModel", name := "diskAt", desc := "(II)I" } : Jvm.MethodName)) ∈ lw_tbl := lw_at lw_m15 158 rfl
theorem q3706 : (Jvm.Cond.instanceMethod ({ cls := "GroupJournalModel", name := "diskAt", desc := "(II)I" } : Jvm.MethodName)) ∈ lw_all := lw_g (lw_at lw_m15 159 rfl) rfl
theorem q3707 : (Jvm.Cond.code ({ cls := "GroupJournalModel", name := "diskAt", desc := "(II)I" } : Jvm.MethodName) prog_26_method_28_code (3 : Nat) (Option.some Jvm.ClassFile.FieldType.int)) ∈ lw_all := lw_g (lw_at lw_m15 160 rfl) rfl
theorem q3708 : (Jvm.Cond.methodLink "GroupJournalModel" (497 : Nat) ({ cls := "GroupJournalModel", name := "serialOf", desc := "(I)I" } : Jvm.MethodName)) ∈ lw_all := lw_g (lw_at lw_m15 161 rfl) rfl
theorem q3709 : (Jvm.Cond.privateMethod ({ cls := "GroupJournalModel", name := "serialOf", desc := "(I)I" } : Jvm.MethodName)) ∈ lw_tbl := lw_at lw_m15 162 rfl
theorem q3710 : (Jvm.Cond.instanceMethod ({ cls := "GroupJournalModel", name := "serialOf", desc := "(I)I" } : Jvm.MethodName)) ∈ lw_all := lw_g (lw_at lw_m15 163 rfl) rfl
theorem q3711 : (Jvm.Cond.code ({ cls := "GroupJournalModel", name := "serialOf", desc := "(I)I" } : Jvm.MethodName) prog_26_method_62_code (2 : Nat) (Option.some Jvm.ClassFile.FieldType.int)) ∈ lw_all := lw_g (lw_at lw_m15 164 rfl) rfl
theorem q3712 : (Jvm.Cond.methodLink "GroupJournalModel" (541 : Nat) ({ cls := "GroupJournalModel", name := "firstOf", desc := "(I)I" } : Jvm.MethodName)) ∈ lw_all := lw_g (lw_at lw_m15 165 rfl) rfl
theorem q3713 : (Jvm.Cond.privateMethod ({ cls := "GroupJournalModel", name := "firstOf", desc := "(I)I" } : Jvm.MethodName)) ∈ lw_tbl := lw_at lw_m15 166 rfl
theorem q3714 : (Jvm.Cond.instanceMethod ({ cls := "GroupJournalModel", name := "firstOf", desc := "(I)I" } : Jvm.MethodName)) ∈ lw_all := lw_g (lw_at lw_m15 167 rfl) rfl
theorem q3715 : (Jvm.Cond.code ({ cls := "GroupJournalModel", name := "firstOf", desc := "(I)I" } : Jvm.MethodName) prog_26_method_63_code (2 : Nat) (Option.some Jvm.ClassFile.FieldType.int)) ∈ lw_all := lw_g (lw_at lw_m15 168 rfl) rfl
theorem q3716 : (Jvm.Cond.methodLink "GroupJournalModel" (399 : Nat) ({ cls := "GroupJournalModel", name := "isFree", desc := "(I)Z" } : Jvm.MethodName)) ∈ lw_all := lw_g (lw_at lw_m15 169 rfl) rfl
theorem q3717 : (Jvm.Cond.privateMethod ({ cls := "GroupJournalModel", name := "isFree", desc := "(I)Z" } : Jvm.MethodName)) ∈ lw_tbl := lw_at lw_m15 170 rfl
theorem q3718 : (Jvm.Cond.instanceMethod ({ cls := "GroupJournalModel", name := "isFree", desc := "(I)Z" } : Jvm.MethodName)) ∈ lw_all := lw_g (lw_at lw_m15 171 rfl) rfl
theorem q3719 : (Jvm.Cond.code ({ cls := "GroupJournalModel", name := "isFree", desc := "(I)Z" } : Jvm.MethodName) prog_26_method_42_code (2 : Nat) (Option.some Jvm.ClassFile.FieldType.boolean)) ∈ lw_all := lw_g (lw_at lw_m15 172 rfl) rfl
theorem q3720 : (Jvm.Cond.methodLink "GroupJournalModel" (396 : Nat) ({ cls := "GroupJournalModel", name := "isOnWay", desc := "(I)Z" } : Jvm.MethodName)) ∈ lw_all := lw_g (lw_at lw_m15 173 rfl) rfl
theorem q3721 : (Jvm.Cond.privateMethod ({ cls := "GroupJournalModel", name := "isOnWay", desc := "(I)Z" } : Jvm.MethodName)) ∈ lw_tbl := lw_at lw_m15 174 rfl
theorem q3722 : (Jvm.Cond.instanceMethod ({ cls := "GroupJournalModel", name := "isOnWay", desc := "(I)Z" } : Jvm.MethodName)) ∈ lw_all := lw_g (lw_at lw_m15 175 rfl) rfl
theorem q3723 : (Jvm.Cond.code ({ cls := "GroupJournalModel", name := "isOnWay", desc := "(I)Z" } : Jvm.MethodName) prog_26_method_41_code (3 : Nat) (Option.some Jvm.ClassFile.FieldType.boolean)) ∈ lw_all := lw_g (lw_at lw_m15 176 rfl) rfl
theorem q3724 : (Jvm.Cond.methodLink "GroupJournalModel" (573 : Nat) ({ cls := "GroupJournalModel", name := "framesOf", desc := "(I)I" } : Jvm.MethodName)) ∈ lw_all := lw_g (lw_at lw_m15 177 rfl) rfl
theorem q3725 : (Jvm.Cond.privateMethod ({ cls := "GroupJournalModel", name := "framesOf", desc := "(I)I" } : Jvm.MethodName)) ∈ lw_tbl := lw_at lw_m15 178 rfl
theorem q3726 : (Jvm.Cond.instanceMethod ({ cls := "GroupJournalModel", name := "framesOf", desc := "(I)I" } : Jvm.MethodName)) ∈ lw_all := lw_g (lw_at lw_m15 179 rfl) rfl
theorem q3727 : (Jvm.Cond.code ({ cls := "GroupJournalModel", name := "framesOf", desc := "(I)I" } : Jvm.MethodName) prog_26_method_70_code (2 : Nat) (Option.some Jvm.ClassFile.FieldType.int)) ∈ lw_all := lw_g (lw_at lw_m15 180 rfl) rfl
theorem q3728 : (Jvm.Cond.methodLink "GroupJournalModel" (538 : Nat) ({ cls := "GroupJournalModel", name := "walks", desc := "(I)V" } : Jvm.MethodName)) ∈ lw_all := lw_g (lw_at lw_m15 181 rfl) rfl
theorem q3729 : (Jvm.Cond.privateMethod ({ cls := "GroupJournalModel", name := "walks", desc := "(I)V" } : Jvm.MethodName)) ∈ lw_tbl := lw_at lw_m15 182 rfl
theorem q3730 : (Jvm.Cond.instanceMethod ({ cls := "GroupJournalModel", name := "walks", desc := "(I)V" } : Jvm.MethodName)) ∈ lw_all := lw_g (lw_at lw_m15 183 rfl) rfl
theorem q3731 : (Jvm.Cond.code ({ cls := "GroupJournalModel", name := "walks", desc := "(I)V" } : Jvm.MethodName) prog_26_method_69_code (5 : Nat) (Option.none : Option Jvm.ClassFile.FieldType)) ∈ lw_all := lw_g (lw_at lw_m15 184 rfl) rfl
theorem q3732 : (Jvm.Cond.methodLink "GroupJournalModel" (522 : Nat) ({ cls := "GroupJournalModel", name := "isFrame", desc := "(II)Z" } : Jvm.MethodName)) ∈ lw_all := lw_g (lw_at lw_m15 185 rfl) rfl
theorem q3733 : (Jvm.Cond.privateMethod ({ cls := "GroupJournalModel", name := "isFrame", desc := "(II)Z" } : Jvm.MethodName)) ∈ lw_tbl := lw_at lw_m15 186 rfl
theorem q3734 : (Jvm.Cond.instanceMethod ({ cls := "GroupJournalModel", name := "isFrame", desc := "(II)Z" } : Jvm.MethodName)) ∈ lw_all := lw_g (lw_at lw_m15 187 rfl) rfl
theorem q3735 : (Jvm.Cond.code ({ cls := "GroupJournalModel", name := "isFrame", desc := "(II)Z" } : Jvm.MethodName) prog_26_method_65_code (7 : Nat) (Option.some Jvm.ClassFile.FieldType.boolean)) ∈ lw_all := lw_g (lw_at lw_m15 188 rfl) rfl
theorem q3736 : (Jvm.Cond.methodLink "GroupJournalModel" (525 : Nat) ({ cls := "GroupJournalModel", name := "canBe", desc := "(IZ)Z" } : Jvm.MethodName)) ∈ lw_all := lw_g (lw_at lw_m15 189 rfl) rfl
theorem q3737 : (Jvm.Cond.privateMethod ({ cls := "GroupJournalModel", name := "canBe", desc := "(IZ)Z" } : Jvm.MethodName)) ∈ lw_tbl := lw_at lw_m15 190 rfl
theorem q3738 : (Jvm.Cond.instanceMethod ({ cls := "GroupJournalModel", name := "canBe", desc := "(IZ)Z" } : Jvm.MethodName)) ∈ lw_all := lw_g (lw_at lw_m15 191 rfl) rfl
theorem q3739 : (Jvm.Cond.code ({ cls := "GroupJournalModel", name := "canBe", desc := "(IZ)Z" } : Jvm.MethodName) prog_26_method_66_code (3 : Nat) (Option.some Jvm.ClassFile.FieldType.boolean)) ∈ lw_all := lw_g (lw_at lw_m15 192 rfl) rfl
theorem q3740 : (Jvm.Cond.methodLink "GroupJournalModel" (529 : Nat) ({ cls := "GroupJournalModel", name := "isBorne", desc := "(II)Z" } : Jvm.MethodName)) ∈ lw_all := lw_g (lw_at lw_m15 193 rfl) rfl
theorem q3741 : (Jvm.Cond.privateMethod ({ cls := "GroupJournalModel", name := "isBorne", desc := "(II)Z" } : Jvm.MethodName)) ∈ lw_tbl := lw_at lw_m15 194 rfl
theorem q3742 : (Jvm.Cond.instanceMethod ({ cls := "GroupJournalModel", name := "isBorne", desc := "(II)Z" } : Jvm.MethodName)) ∈ lw_all := lw_g (lw_at lw_m15 195 rfl) rfl
theorem q3743 : (Jvm.Cond.code ({ cls := "GroupJournalModel", name := "isBorne", desc := "(II)Z" } : Jvm.MethodName) prog_26_method_67_code (8 : Nat) (Option.some Jvm.ClassFile.FieldType.boolean)) ∈ lw_all := lw_g (lw_at lw_m15 196 rfl) rfl
theorem q3744 : (Jvm.Cond.constant "GroupJournalModel" (506 : Nat) (65535 : Int32)) ∈ lw_all := lw_g (lw_at lw_m15 197 rfl) rfl
theorem q3745 : (Jvm.Cond.methodLink "GroupJournalModel" (532 : Nat) ({ cls := "GroupJournalModel", name := "recordRead", desc := "(I)V" } : Jvm.MethodName)) ∈ lw_all := lw_g (lw_at lw_m15 198 rfl) rfl
theorem q3746 : (Jvm.Cond.privateMethod ({ cls := "GroupJournalModel", name := "recordRead", desc := "(I)V" } : Jvm.MethodName)) ∈ lw_tbl := lw_at lw_m15 199 rfl
theorem q3747 : (Jvm.Cond.instanceMethod ({ cls := "GroupJournalModel", name := "recordRead", desc := "(I)V" } : Jvm.MethodName)) ∈ lw_all := lw_g (lw_at lw_m15 200 rfl) rfl
theorem q3748 : (Jvm.Cond.code ({ cls := "GroupJournalModel", name := "recordRead", desc := "(I)V" } : Jvm.MethodName) prog_26_method_68_code (2 : Nat) (Option.none : Option Jvm.ClassFile.FieldType)) ∈ lw_all := lw_g (lw_at lw_m15 201 rfl) rfl
theorem q3750 : (Jvm.Cond.instanceMethod ({ cls := "GroupJournalModel", name := "frame", desc := "(III)I" } : Jvm.MethodName)) ∈ lw_all := lw_g (lw_at lw_m15 203 rfl) rfl
theorem q3751 : (Jvm.Cond.selects "GroupJournalModel" ({ cls := "GroupJournalModel", name := "frame", desc := "(III)I" } : Jvm.MethodName) ({ cls := "GroupJournalModel", name := "frame", desc := "(III)I" } : Jvm.MethodName)) ∈ lw_all := lw_g (lw_at lw_m15 204 rfl) rfl
theorem q3752 : (Jvm.Cond.code ({ cls := "GroupJournalModel", name := "frame", desc := "(III)I" } : Jvm.MethodName) prog_26_method_82_code (5 : Nat) (Option.some Jvm.ClassFile.FieldType.int)) ∈ lw_all := lw_g (lw_at lw_m15 205 rfl) rfl
theorem q3753 : (Jvm.Cond.constantLong "GroupJournalModel" (576 : Nat) (2 : Int64)) ∈ lw_all := lw_g (lw_at lw_m15 206 rfl) rfl
theorem q3755 : (Jvm.Cond.instanceMethod ({ cls := "GroupJournalModel", name := "octetOf", desc := "(II)I" } : Jvm.MethodName)) ∈ lw_all := lw_g (lw_at lw_m15 208 rfl) rfl
theorem q3756 : (Jvm.Cond.selects "GroupJournalModel" ({ cls := "GroupJournalModel", name := "octetOf", desc := "(II)I" } : Jvm.MethodName) ({ cls := "GroupJournalModel", name := "octetOf", desc := "(II)I" } : Jvm.MethodName)) ∈ lw_all := lw_g (lw_at lw_m15 209 rfl) rfl
theorem q3757 : (Jvm.Cond.code ({ cls := "GroupJournalModel", name := "octetOf", desc := "(II)I" } : Jvm.MethodName) prog_26_method_83_code (3 : Nat) (Option.some Jvm.ClassFile.FieldType.int)) ∈ lw_all := lw_g (lw_at lw_m15 210 rfl) rfl
theorem q3759 : (Jvm.Cond.instanceMethod ({ cls := "GroupJournalModel", name := "place", desc := "(I)I" } : Jvm.MethodName)) ∈ lw_all := lw_g (lw_at lw_m15 212 rfl) rfl
theorem q3760 : (Jvm.Cond.selects "GroupJournalModel" ({ cls := "GroupJournalModel", name := "place", desc := "(I)I" } : Jvm.MethodName) ({ cls := "GroupJournalModel", name := "place", desc := "(I)I" } : Jvm.MethodName)) ∈ lw_all := lw_g (lw_at lw_m15 213 rfl) rfl
theorem q3761 : (Jvm.Cond.code ({ cls := "GroupJournalModel", name := "place", desc := "(I)I" } : Jvm.MethodName) prog_26_method_84_code (2 : Nat) (Option.some Jvm.ClassFile.FieldType.int)) ∈ lw_all := lw_g (lw_at lw_m15 214 rfl) rfl
theorem q3763 : (Jvm.Cond.instanceMethod ({ cls := "GroupJournalModel", name := "value", desc := "(I)I" } : Jvm.MethodName)) ∈ lw_all := lw_g (lw_at lw_m15 216 rfl) rfl
theorem q3764 : (Jvm.Cond.selects "GroupJournalModel" ({ cls := "GroupJournalModel", name := "value", desc := "(I)I" } : Jvm.MethodName) ({ cls := "GroupJournalModel", name := "value", desc := "(I)I" } : Jvm.MethodName)) ∈ lw_all := lw_g (lw_at lw_m15 217 rfl) rfl
theorem q3765 : (Jvm.Cond.code ({ cls := "GroupJournalModel", name := "value", desc := "(I)I" } : Jvm.MethodName) prog_26_method_85_code (2 : Nat) (Option.some Jvm.ClassFile.FieldType.int)) ∈ lw_all := lw_g (lw_at lw_m15 218 rfl) rfl
theorem q3766 : (Jvm.Cond.constantLong "GroupJournalModel" (578 : Nat) (15 : Int64)) ∈ lw_all := lw_g (lw_at lw_m15 219 rfl) rfl
theorem q3768 : (Jvm.Cond.instanceMethod ({ cls := "GroupJournalModel", name := "soon", desc := "(I)I" } : Jvm.MethodName)) ∈ lw_all := lw_g (lw_at lw_m15 221 rfl) rfl
theorem q3769 : (Jvm.Cond.selects "GroupJournalModel" ({ cls := "GroupJournalModel", name := "soon", desc := "(I)I" } : Jvm.MethodName) ({ cls := "GroupJournalModel", name := "soon", desc := "(I)I" } : Jvm.MethodName)) ∈ lw_all := lw_g (lw_at lw_m15 222 rfl) rfl
theorem q3770 : (Jvm.Cond.code ({ cls := "GroupJournalModel", name := "soon", desc := "(I)I" } : Jvm.MethodName) prog_26_method_86_code (4 : Nat) (Option.some Jvm.ClassFile.FieldType.int)) ∈ lw_all := lw_g (lw_at lw_m15 223 rfl) rfl
theorem q3771 : (Jvm.Cond.methodLink "GroupJournalModel" (580 : Nat) ({ cls := "GroupJournalModel", name := "value", desc := "(I)I" } : Jvm.MethodName)) ∈ lw_all := lw_g (lw_at lw_m15 224 rfl) rfl
theorem q3772 : (Jvm.Cond.methodLink "GroupJournalModel" (363 : Nat) ({ cls := "GroupJournalModel", name := "recordOf", desc := "(II)I" } : Jvm.MethodName)) ∈ lw_all := lw_g (lw_at lw_m15 225 rfl) rfl
theorem q3773 : (Jvm.Cond.privateMethod ({ cls := "GroupJournalModel", name := "recordOf", desc := "(II)I" } : Jvm.MethodName)) ∈ lw_tbl := lw_at lw_m15 226 rfl
theorem q3774 : (Jvm.Cond.instanceMethod ({ cls := "GroupJournalModel", name := "recordOf", desc := "(II)I" } : Jvm.MethodName)) ∈ lw_all := lw_g (lw_at lw_m15 227 rfl) rfl
theorem q3775 : (Jvm.Cond.code ({ cls := "GroupJournalModel", name := "recordOf", desc := "(II)I" } : Jvm.MethodName) prog_26_method_30_code (3 : Nat) (Option.some Jvm.ClassFile.FieldType.int)) ∈ lw_all := lw_g (lw_at lw_m15 228 rfl) rfl
theorem q3777 : (Jvm.Cond.instanceMethod ({ cls := "GroupJournalModel", name := "waiting", desc := "(II)I" } : Jvm.MethodName)) ∈ lw_all := lw_g (lw_at lw_m15 230 rfl) rfl
theorem q3778 : (Jvm.Cond.selects "GroupJournalModel" ({ cls := "GroupJournalModel", name := "waiting", desc := "(II)I" } : Jvm.MethodName) ({ cls := "GroupJournalModel", name := "waiting", desc := "(II)I" } : Jvm.MethodName)) ∈ lw_all := lw_g (lw_at lw_m15 231 rfl) rfl
theorem q3779 : (Jvm.Cond.code ({ cls := "GroupJournalModel", name := "waiting", desc := "(II)I" } : Jvm.MethodName) prog_26_method_87_code (4 : Nat) (Option.some Jvm.ClassFile.FieldType.int)) ∈ lw_all := lw_g (lw_at lw_m15 232 rfl) rfl
theorem q3780 : (Jvm.Cond.constantLong "GroupJournalModel" (583 : Nat) (3 : Int64)) ∈ lw_all := lw_g (lw_at lw_m15 233 rfl) rfl
theorem q3782 : (Jvm.Cond.instanceMethod ({ cls := "GroupJournalModel", name := "waiter", desc := "(I)I" } : Jvm.MethodName)) ∈ lw_all := lw_g (lw_at lw_m15 235 rfl) rfl
theorem q3783 : (Jvm.Cond.selects "GroupJournalModel" ({ cls := "GroupJournalModel", name := "waiter", desc := "(I)I" } : Jvm.MethodName) ({ cls := "GroupJournalModel", name := "waiter", desc := "(I)I" } : Jvm.MethodName)) ∈ lw_all := lw_g (lw_at lw_m15 236 rfl) rfl
theorem q3784 : (Jvm.Cond.code ({ cls := "GroupJournalModel", name := "waiter", desc := "(I)I" } : Jvm.MethodName) prog_26_method_88_code (2 : Nat) (Option.some Jvm.ClassFile.FieldType.int)) ∈ lw_all := lw_g (lw_at lw_m15 237 rfl) rfl
theorem q3785 : (Jvm.Cond.constantLong "GroupJournalModel" (585 : Nat) (7 : Int64)) ∈ lw_all := lw_g (lw_at lw_m15 238 rfl) rfl
theorem q3787 : (Jvm.Cond.instanceMethod ({ cls := "GroupJournalModel", name := "kept", desc := "(II)I" } : Jvm.MethodName)) ∈ lw_all := lw_g (lw_at lw_m16 0 rfl) rfl
theorem q3788 : (Jvm.Cond.selects "GroupJournalModel" ({ cls := "GroupJournalModel", name := "kept", desc := "(II)I" } : Jvm.MethodName) ({ cls := "GroupJournalModel", name := "kept", desc := "(II)I" } : Jvm.MethodName)) ∈ lw_all := lw_g (lw_at lw_m16 1 rfl) rfl
theorem q3789 : (Jvm.Cond.code ({ cls := "GroupJournalModel", name := "kept", desc := "(II)I" } : Jvm.MethodName) prog_26_method_89_code (3 : Nat) (Option.some Jvm.ClassFile.FieldType.int)) ∈ lw_all := lw_g (lw_at lw_m16 2 rfl) rfl
theorem q3791 : (Jvm.Cond.instanceMethod ({ cls := "GroupJournalModel", name := "later", desc := "(II)I" } : Jvm.MethodName)) ∈ lw_all := lw_g (lw_at lw_m16 4 rfl) rfl
theorem q3792 : (Jvm.Cond.selects "GroupJournalModel" ({ cls := "GroupJournalModel", name := "later", desc := "(II)I" } : Jvm.MethodName) ({ cls := "GroupJournalModel", name := "later", desc := "(II)I" } : Jvm.MethodName)) ∈ lw_all := lw_g (lw_at lw_m16 5 rfl) rfl
theorem q3793 : (Jvm.Cond.code ({ cls := "GroupJournalModel", name := "later", desc := "(II)I" } : Jvm.MethodName) prog_26_method_90_code (4 : Nat) (Option.some Jvm.ClassFile.FieldType.int)) ∈ lw_all := lw_g (lw_at lw_m16 6 rfl) rfl
theorem q3794 : (Jvm.Cond.methodLink "GroupJournalModel" (587 : Nat) ({ cls := "GroupJournalModel", name := "isAhead", desc := "(III)Z" } : Jvm.MethodName)) ∈ lw_all := lw_g (lw_at lw_m16 7 rfl) rfl
theorem q3795 : (Jvm.Cond.privateMethod ({ cls := "GroupJournalModel", name := "isAhead", desc := "(III)Z" } : Jvm.MethodName)) ∈ lw_tbl := lw_at lw_m16 8 rfl
theorem q3796 : (Jvm.Cond.instanceMethod ({ cls := "GroupJournalModel", name := "isAhead", desc := "(III)Z" } : Jvm.MethodName)) ∈ lw_all := lw_g (lw_at lw_m16 9 rfl) rfl
theorem q3797 : (Jvm.Cond.code ({ cls := "GroupJournalModel", name := "isAhead", desc := "(III)Z" } : Jvm.MethodName) prog_26_method_61_code (4 : Nat) (Option.some Jvm.ClassFile.FieldType.boolean)) ∈ lw_all := lw_g (lw_at lw_m16 10 rfl) rfl
theorem q3798 : (Jvm.Cond.methodLink "GroupJournalModel" (591 : Nat) ({ cls := "GroupJournalModel", name := "putsAside", desc := "()V" } : Jvm.MethodName)) ∈ lw_all := lw_g (lw_at lw_m16 11 rfl) rfl
theorem q3799 : (Jvm.Cond.privateMethod ({ cls := "GroupJournalModel", name := "putsAside", desc := "()V" } : Jvm.MethodName)) ∈ lw_tbl := lw_at lw_m16 12 rfl
theorem q3800 : (Jvm.Cond.instanceMethod ({ cls := "GroupJournalModel", name := "putsAside", desc := "()V" } : Jvm.MethodName)) ∈ lw_all := lw_g (lw_at lw_m16 13 rfl) rfl
theorem q3801 : (Jvm.Cond.code ({ cls := "GroupJournalModel", name := "putsAside", desc := "()V" } : Jvm.MethodName) prog_26_method_58_code (2 : Nat) (Option.none : Option Jvm.ClassFile.FieldType)) ∈ lw_all := lw_g (lw_at lw_m16 14 rfl) rfl
theorem q3802 : (Jvm.Cond.methodLink "GroupJournalModel" (594 : Nat) ({ cls := "GroupJournalModel", name := "ticksGo", desc := "(I)V" } : Jvm.MethodName)) ∈ lw_all := lw_g (lw_at lw_m16 15 rfl) rfl
theorem q3803 : (Jvm.Cond.privateMethod ({ cls := "GroupJournalModel", name := "ticksGo", desc := "(I)V" } : Jvm.MethodName)) ∈ lw_tbl := lw_at lw_m16 16 rfl
theorem q3804 : (Jvm.Cond.instanceMethod ({ cls := "GroupJournalModel", name := "ticksGo", desc := "(I)V" } : Jvm.MethodName)) ∈ lw_all := lw_g (lw_at lw_m16 17 rfl) rfl
theorem q3805 : (Jvm.Cond.code ({ cls := "GroupJournalModel", name := "ticksGo", desc := "(I)V" } : Jvm.MethodName) prog_26_method_57_code (3 : Nat) (Option.none : Option Jvm.ClassFile.FieldType)) ∈ lw_all := lw_g (lw_at lw_m16 18 rfl) rfl
theorem q3806 : (Jvm.Cond.methodLink "GroupJournalModel" (488 : Nat) ({ cls := "GroupJournalModel", name := "tickGoes", desc := "()V" } : Jvm.MethodName)) ∈ lw_all := lw_g (lw_at lw_m16 19 rfl) rfl
theorem q3807 : (Jvm.Cond.privateMethod ({ cls := "GroupJournalModel", name := "tickGoes", desc := "()V" } : Jvm.MethodName)) ∈ lw_tbl := lw_at lw_m16 20 rfl
theorem q3808 : (Jvm.Cond.instanceMethod ({ cls := "GroupJournalModel", name := "tickGoes", desc := "()V" } : Jvm.MethodName)) ∈ lw_all := lw_g (lw_at lw_m16 21 rfl) rfl
theorem q3809 : (Jvm.Cond.code ({ cls := "GroupJournalModel", name := "tickGoes", desc := "()V" } : Jvm.MethodName) prog_26_method_56_code (1 : Nat) (Option.none : Option Jvm.ClassFile.FieldType)) ∈ lw_all := lw_g (lw_at lw_m16 22 rfl) rfl
theorem q3810 : (Jvm.Cond.methodLink "GroupJournalModel" (476 : Nat) ({ cls := "GroupJournalModel", name := "arrives", desc := "(I)V" } : Jvm.MethodName)) ∈ lw_all := lw_g (lw_at lw_m16 23 rfl) rfl
theorem q3811 : (Jvm.Cond.privateMethod ({ cls := "GroupJournalModel", name := "arrives", desc := "(I)V" } : Jvm.MethodName)) ∈ lw_tbl := lw_at lw_m16 24 rfl
theorem q3812 : (Jvm.Cond.instanceMethod ({ cls := "GroupJournalModel", name := "arrives", desc := "(I)V" } : Jvm.MethodName)) ∈ lw_all := lw_g (lw_at lw_m16 25 rfl) rfl
theorem q3813 : (Jvm.Cond.code ({ cls := "GroupJournalModel", name := "arrives", desc := "(I)V" } : Jvm.MethodName) prog_26_method_55_code (3 : Nat) (Option.none : Option Jvm.ClassFile.FieldType)) ∈ lw_all := lw_g (lw_at lw_m16 26 rfl) rfl
theorem q3814 : (Jvm.Cond.methodLink "GroupJournalModel" (479 : Nat) ({ cls := "GroupJournalModel", name := "releases", desc := "(I)V" } : Jvm.MethodName)) ∈ lw_all := lw_g (lw_at lw_m16 27 rfl) rfl
theorem q3815 : (Jvm.Cond.privateMethod ({ cls := "GroupJournalModel", name := "releases", desc := "(I)V" } : Jvm.MethodName)) ∈ lw_tbl := lw_at lw_m16 28 rfl
theorem q3816 : (Jvm.Cond.instanceMethod ({ cls := "GroupJournalModel", name := "releases", desc := "(I)V" } : Jvm.MethodName)) ∈ lw_all := lw_g (lw_at lw_m16 29 rfl) rfl
theorem q3817 : (Jvm.Cond.code ({ cls := "GroupJournalModel", name := "releases", desc := "(I)V" } : Jvm.MethodName) prog_26_method_54_code (6 : Nat) (Option.none : Option Jvm.ClassFile.FieldType)) ∈ lw_all := lw_g (lw_at lw_m16 30 rfl) rfl
theorem q3818 : (Jvm.Cond.methodLink "GroupJournalModel" (470 : Nat) ({ cls := "GroupJournalModel", name := "isKept", desc := "(II)V" } : Jvm.MethodName)) ∈ lw_all := lw_g (lw_at lw_m16 31 rfl) rfl
theorem q3819 : (Jvm.Cond.privateMethod ({ cls := "GroupJournalModel", name := "isKept", desc := "(II)V" } : Jvm.MethodName)) ∈ lw_tbl := lw_at lw_m16 32 rfl
theorem q3820 : (Jvm.Cond.instanceMethod ({ cls := "GroupJournalModel", name := "isKept", desc := "(II)V" } : Jvm.MethodName)) ∈ lw_all := lw_g (lw_at lw_m16 33 rfl) rfl
theorem q3821 : (Jvm.Cond.code ({ cls := "GroupJournalModel", name := "isKept", desc := "(II)V" } : Jvm.MethodName) prog_26_method_53_code (4 : Nat) (Option.none : Option Jvm.ClassFile.FieldType)) ∈ lw_all := lw_g (lw_at lw_m16 34 rfl) rfl
theorem q3822 : (Jvm.Cond.methodLink "GroupJournalModel" (485 : Nat) ({ cls := "GroupJournalModel", name := "groupCloses", desc := "()V" } : Jvm.MethodName)) ∈ lw_all := lw_g (lw_at lw_m16 35 rfl) rfl
theorem q3823 : (Jvm.Cond.privateMethod ({ cls := "GroupJournalModel", name := "groupCloses", desc := "()V" } : Jvm.MethodName)) ∈ lw_tbl := lw_at lw_m16 36 rfl
theorem q3824 : (Jvm.Cond.instanceMethod ({ cls := "GroupJournalModel", name := "groupCloses", desc := "()V" } : Jvm.MethodName)) ∈ lw_all := lw_g (lw_at lw_m16 37 rfl) rfl
theorem q3825 : (Jvm.Cond.code ({ cls := "GroupJournalModel", name := "groupCloses", desc := "()V" } : Jvm.MethodName) prog_26_method_52_code (2 : Nat) (Option.none : Option Jvm.ClassFile.FieldType)) ∈ lw_all := lw_g (lw_at lw_m16 38 rfl) rfl
theorem q3826 : (Jvm.Cond.methodLink "GroupJournalModel" (454 : Nat) ({ cls := "GroupJournalModel", name := "doesClose", desc := "()Z" } : Jvm.MethodName)) ∈ lw_all := lw_g (lw_at lw_m16 39 rfl) rfl
theorem q3827 : (Jvm.Cond.privateMethod ({ cls := "GroupJournalModel", name := "doesClose", desc := "()Z" } : Jvm.MethodName)) ∈ lw_tbl := lw_at lw_m16 40 rfl
theorem q3828 : (Jvm.Cond.instanceMethod ({ cls := "GroupJournalModel", name := "doesClose", desc := "()Z" } : Jvm.MethodName)) ∈ lw_all := lw_g (lw_at lw_m16 41 rfl) rfl
theorem q3829 : (Jvm.Cond.code ({ cls := "GroupJournalModel", name := "doesClose", desc := "()Z" } : Jvm.MethodName) prog_26_method_50_code (1 : Nat) (Option.some Jvm.ClassFile.FieldType.boolean)) ∈ lw_all := lw_g (lw_at lw_m16 42 rfl) rfl
theorem q3830 : (Jvm.Cond.methodLink "GroupJournalModel" (442 : Nat) ({ cls := "GroupJournalModel", name := "asksOf", desc := "(I)V" } : Jvm.MethodName)) ∈ lw_all := lw_g (lw_at lw_m16 43 rfl) rfl
theorem q3831 : (Jvm.Cond.privateMethod ({ cls := "GroupJournalModel", name := "asksOf", desc := "(I)V" } : Jvm.MethodName)) ∈ lw_tbl := lw_at lw_m16 44 rfl
theorem q3832 : (Jvm.Cond.instanceMethod ({ cls := "GroupJournalModel", name := "asksOf", desc := "(I)V" } : Jvm.MethodName)) ∈ lw_all := lw_g (lw_at lw_m16 45 rfl) rfl
theorem q3833 : (Jvm.Cond.code ({ cls := "GroupJournalModel", name := "asksOf", desc := "(I)V" } : Jvm.MethodName) prog_26_method_49_code (4 : Nat) (Option.none : Option Jvm.ClassFile.FieldType)) ∈ lw_all := lw_g (lw_at lw_m16 46 rfl) rfl
theorem q3834 : (Jvm.Cond.methodLink "GroupJournalModel" (408 : Nat) ({ cls := "GroupJournalModel", name := "payloadOf", desc := "(I)I" } : Jvm.MethodName)) ∈ lw_all := lw_g (lw_at lw_m16 47 rfl) rfl
theorem q3835 : (Jvm.Cond.privateMethod ({ cls := "GroupJournalModel", name := "payloadOf", desc := "(I)I" } : Jvm.MethodName)) ∈ lw_tbl := lw_at lw_m16 48 rfl
theorem q3836 : (Jvm.Cond.instanceMethod ({ cls := "GroupJournalModel", name := "payloadOf", desc := "(I)I" } : Jvm.MethodName)) ∈ lw_all := lw_g (lw_at lw_m16 49 rfl) rfl
theorem q3837 : (Jvm.Cond.code ({ cls := "GroupJournalModel", name := "payloadOf", desc := "(I)I" } : Jvm.MethodName) prog_26_method_31_code (2 : Nat) (Option.some Jvm.ClassFile.FieldType.int)) ∈ lw_all := lw_g (lw_at lw_m16 50 rfl) rfl
theorem q3838 : (Jvm.Cond.methodLink "GroupJournalModel" (445 : Nat) ({ cls := "GroupJournalModel", name := "isCoded", desc := "(I)Z" } : Jvm.MethodName)) ∈ lw_all := lw_g (lw_at lw_m16 51 rfl) rfl
theorem q3839 : (Jvm.Cond.privateMethod ({ cls := "GroupJournalModel", name := "isCoded", desc := "(I)Z" } : Jvm.MethodName)) ∈ lw_tbl := lw_at lw_m16 52 rfl
theorem q3840 : (Jvm.Cond.instanceMethod ({ cls := "GroupJournalModel", name := "isCoded", desc := "(I)Z" } : Jvm.MethodName)) ∈ lw_all := lw_g (lw_at lw_m16 53 rfl) rfl
theorem q3841 : (Jvm.Cond.code ({ cls := "GroupJournalModel", name := "isCoded", desc := "(I)Z" } : Jvm.MethodName) prog_26_method_33_code (2 : Nat) (Option.some Jvm.ClassFile.FieldType.boolean)) ∈ lw_all := lw_g (lw_at lw_m16 54 rfl) rfl
theorem q3842 : (Jvm.Cond.methodLink "GroupJournalModel" (448 : Nat) ({ cls := "GroupJournalModel", name := "codesTell", desc := "(I)J" } : Jvm.MethodName)) ∈ lw_all := lw_g (lw_at lw_m16 55 rfl) rfl
theorem q3843 : (Jvm.Cond.privateMethod ({ cls := "GroupJournalModel", name := "codesTell", desc := "(I)J" } : Jvm.MethodName)) ∈ lw_tbl := lw_at lw_m16 56 rfl
theorem q3844 : (Jvm.Cond.instanceMethod ({ cls := "GroupJournalModel", name := "codesTell", desc := "(I)J" } : Jvm.MethodName)) ∈ lw_all := lw_g (lw_at lw_m16 57 rfl) rfl
theorem q3845 : (Jvm.Cond.code ({ cls := "GroupJournalModel", name := "codesTell", desc := "(I)J" } : Jvm.MethodName) prog_26_method_34_code (4 : Nat) (Option.some Jvm.ClassFile.FieldType.long)) ∈ lw_all := lw_g (lw_at lw_m16 58 rfl) rfl
theorem q3846 : (Jvm.Cond.methodLink "GroupJournalModel" (369 : Nat) ({ cls := "GroupJournalModel", name := "qPuts", desc := "(J)V" } : Jvm.MethodName)) ∈ lw_all := lw_g (lw_at lw_m16 59 rfl) rfl
theorem q3847 : (Jvm.Cond.privateMethod ({ cls := "GroupJournalModel", name := "qPuts", desc := "(J)V" } : Jvm.MethodName)) ∈ lw_tbl := lw_at lw_m16 60 rfl
theorem q3848 : (Jvm.Cond.instanceMethod ({ cls := "GroupJournalModel", name := "qPuts", desc := "(J)V" } : Jvm.MethodName)) ∈ lw_all := lw_g (lw_at lw_m16 61 rfl) rfl
theorem q3849 : (Jvm.Cond.code ({ cls := "GroupJournalModel", name := "qPuts", desc := "(J)V" } : Jvm.MethodName) prog_26_method_144_code (3 : Nat) (Option.none : Option Jvm.ClassFile.FieldType)) ∈ lw_all := lw_g (lw_at lw_m16 62 rfl) rfl
theorem q3850 : (Jvm.Cond.methodLink "GroupJournalModel" (373 : Nat) ({ cls := "GroupJournalModel", name := "qPartOf", desc := "(II)J" } : Jvm.MethodName)) ∈ lw_all := lw_g (lw_at lw_m16 63 rfl) rfl
theorem q3851 : (Jvm.Cond.privateMethod ({ cls := "GroupJournalModel", name := "qPartOf", desc := "(II)J" } : Jvm.MethodName)) ∈ lw_tbl := lw_at lw_m16 64 rfl
theorem q3852 : (Jvm.Cond.instanceMethod ({ cls := "GroupJournalModel", name := "qPartOf", desc := "(II)J" } : Jvm.MethodName)) ∈ lw_all := lw_g (lw_at lw_m16 65 rfl) rfl
theorem q3853 : (Jvm.Cond.code ({ cls := "GroupJournalModel", name := "qPartOf", desc := "(II)J" } : Jvm.MethodName) prog_26_method_146_code (3 : Nat) (Option.some Jvm.ClassFile.FieldType.long)) ∈ lw_all := lw_g (lw_at lw_m16 66 rfl) rfl
theorem q3854 : (Jvm.Cond.methodLink "GroupJournalModel" (377 : Nat) ({ cls := "GroupJournalModel", name := "qJoins", desc := "(I)V" } : Jvm.MethodName)) ∈ lw_all := lw_g (lw_at lw_m16 67 rfl) rfl
theorem q3855 : (Jvm.Cond.privateMethod ({ cls := "GroupJournalModel", name := "qJoins", desc := "(I)V" } : Jvm.MethodName)) ∈ lw_tbl := lw_at lw_m16 68 rfl
theorem q3856 : (Jvm.Cond.instanceMethod ({ cls := "GroupJournalModel", name := "qJoins", desc := "(I)V" } : Jvm.MethodName)) ∈ lw_all := lw_g (lw_at lw_m16 69 rfl) rfl
theorem q3857 : (Jvm.Cond.code ({ cls := "GroupJournalModel", name := "qJoins", desc := "(I)V" } : Jvm.MethodName) prog_26_method_145_code (6 : Nat) (Option.none : Option Jvm.ClassFile.FieldType)) ∈ lw_all := lw_g (lw_at lw_m16 70 rfl) rfl
theorem q3858 : (Jvm.Cond.methodLink "GroupJournalModel" (714 : Nat) ({ cls := "GroupJournalModel", name := "qClip", desc := "(J)J" } : Jvm.MethodName)) ∈ lw_all := lw_g (lw_at lw_m16 71 rfl) rfl
theorem q3859 : (Jvm.Cond.static ({ cls := "GroupJournalModel", name := "qClip", desc := "(J)J" } : Jvm.MethodName)) ∈ lw_all := lw_g (lw_at lw_m16 72 rfl) rfl
theorem q3860 : (Jvm.Cond.code ({ cls := "GroupJournalModel", name := "qClip", desc := "(J)J" } : Jvm.MethodName) prog_26_method_142_code (2 : Nat) (Option.some Jvm.ClassFile.FieldType.long)) ∈ lw_all := lw_g (lw_at lw_m16 73 rfl) rfl
theorem q3861 : (Jvm.Cond.constantLong "GroupJournalModel" (710 : Nat) (1000000 : Int64)) ∈ lw_all := lw_g (lw_at lw_m16 74 rfl) rfl
theorem q3862 : (Jvm.Cond.constantLong "GroupJournalModel" (712 : Nat) (-1000000 : Int64)) ∈ lw_all := lw_g (lw_at lw_m16 75 rfl) rfl
theorem q3863 : (Jvm.Cond.methodLink "GroupJournalModel" (718 : Nat) ({ cls := "GroupJournalModel", name := "qFloor", desc := "(JJ)J" } : Jvm.MethodName)) ∈ lw_all := lw_g (lw_at lw_m16 76 rfl) rfl
theorem q3864 : (Jvm.Cond.static ({ cls := "GroupJournalModel", name := "qFloor", desc := "(JJ)J" } : Jvm.MethodName)) ∈ lw_all := lw_g (lw_at lw_m16 77 rfl) rfl
theorem q3865 : (Jvm.Cond.code ({ cls := "GroupJournalModel", name := "qFloor", desc := "(JJ)J" } : Jvm.MethodName) prog_26_method_143_code (6 : Nat) (Option.some Jvm.ClassFile.FieldType.long)) ∈ lw_all := lw_g (lw_at lw_m16 78 rfl) rfl
theorem q3866 : (Jvm.Cond.methodLink "GroupJournalModel" (458 : Nat) ({ cls := "GroupJournalModel", name := "areLaid", desc := "(I)Z" } : Jvm.MethodName)) ∈ lw_all := lw_g (lw_at lw_m16 79 rfl) rfl
theorem q3867 : (Jvm.Cond.privateMethod ({ cls := "GroupJournalModel", name := "areLaid", desc := "(I)Z" } : Jvm.MethodName)) ∈ lw_tbl := lw_at lw_m16 80 rfl
theorem q3868 : (Jvm.Cond.instanceMethod ({ cls := "GroupJournalModel", name := "areLaid", desc := "(I)Z" } : Jvm.MethodName)) ∈ lw_all := lw_g (lw_at lw_m16 81 rfl) rfl
theorem q3869 : (Jvm.Cond.code ({ cls := "GroupJournalModel", name := "areLaid", desc := "(I)Z" } : Jvm.MethodName) prog_26_method_48_code (5 : Nat) (Option.some Jvm.ClassFile.FieldType.boolean)) ∈ lw_all := lw_g (lw_at lw_m16 82 rfl) rfl
theorem q3870 : (Jvm.Cond.methodLink "GroupJournalModel" (433 : Nat) ({ cls := "GroupJournalModel", name := "isLaid", desc := "(I)Z" } : Jvm.MethodName)) ∈ lw_all := lw_g (lw_at lw_m16 83 rfl) rfl
theorem q3871 : (Jvm.Cond.privateMethod ({ cls := "GroupJournalModel", name := "isLaid", desc := "(I)Z" } : Jvm.MethodName)) ∈ lw_tbl := lw_at lw_m16 84 rfl
theorem q3872 : (Jvm.Cond.instanceMethod ({ cls := "GroupJournalModel", name := "isLaid", desc := "(I)Z" } : Jvm.MethodName)) ∈ lw_all := lw_g (lw_at lw_m16 85 rfl) rfl
theorem q3873 : (Jvm.Cond.code ({ cls := "GroupJournalModel", name := "isLaid", desc := "(I)Z" } : Jvm.MethodName) prog_26_method_47_code (6 : Nat) (Option.some Jvm.ClassFile.FieldType.boolean)) ∈ lw_all := lw_g (lw_at lw_m16 86 rfl) rfl
theorem q3874 : (Jvm.Cond.methodLink "GroupJournalModel" (427 : Nat) ({ cls := "GroupJournalModel", name := "freeOne", desc := "()I" } : Jvm.MethodName)) ∈ lw_all := lw_g (lw_at lw_m16 87 rfl) rfl
theorem q3875 : (Jvm.Cond.privateMethod ({ cls := "GroupJournalModel", name := "freeOne", desc := "()I" } : Jvm.MethodName)) ∈ lw_tbl := lw_at lw_m16 88 rfl
theorem q3876 : (Jvm.Cond.instanceMethod ({ cls := "GroupJournalModel", name := "freeOne", desc := "()I" } : Jvm.MethodName)) ∈ lw_all := lw_g (lw_at lw_m16 89 rfl) rfl
theorem q3877 : (Jvm.Cond.code ({ cls := "GroupJournalModel", name := "freeOne", desc := "()I" } : Jvm.MethodName) prog_26_method_43_code (2 : Nat) (Option.some Jvm.ClassFile.FieldType.int)) ∈ lw_all := lw_g (lw_at lw_m16 90 rfl) rfl
theorem q3878 : (Jvm.Cond.methodLink "GroupJournalModel" (420 : Nat) ({ cls := "GroupJournalModel", name := "goesOut", desc := "(I)V" } : Jvm.MethodName)) ∈ lw_all := lw_g (lw_at lw_m16 91 rfl) rfl
theorem q3879 : (Jvm.Cond.privateMethod ({ cls := "GroupJournalModel", name := "goesOut", desc := "(I)V" } : Jvm.MethodName)) ∈ lw_tbl := lw_at lw_m16 92 rfl
theorem q3880 : (Jvm.Cond.instanceMethod ({ cls := "GroupJournalModel", name := "goesOut", desc := "(I)V" } : Jvm.MethodName)) ∈ lw_all := lw_g (lw_at lw_m16 93 rfl) rfl
theorem q3881 : (Jvm.Cond.code ({ cls := "GroupJournalModel", name := "goesOut", desc := "(I)V" } : Jvm.MethodName) prog_26_method_36_code (2 : Nat) (Option.none : Option Jvm.ClassFile.FieldType)) ∈ lw_all := lw_g (lw_at lw_m16 94 rfl) rfl
theorem q3882 : (Jvm.Cond.methodLink "GroupJournalModel" (430 : Nat) ({ cls := "GroupJournalModel", name := "frameGoes", desc := "(III)V" } : Jvm.MethodName)) ∈ lw_all := lw_g (lw_at lw_m16 95 rfl) rfl
theorem q3883 : (Jvm.Cond.privateMethod ({ cls := "GroupJournalModel", name := "frameGoes", desc := "(III)V" } : Jvm.MethodName)) ∈ lw_tbl := lw_at lw_m16 96 rfl
theorem q3884 : (Jvm.Cond.instanceMethod ({ cls := "GroupJournalModel", name := "frameGoes", desc := "(III)V" } : Jvm.MethodName)) ∈ lw_all := lw_g (lw_at lw_m16 97 rfl) rfl
theorem q3885 : (Jvm.Cond.code ({ cls := "GroupJournalModel", name := "frameGoes", desc := "(III)V" } : Jvm.MethodName) prog_26_method_45_code (8 : Nat) (Option.none : Option Jvm.ClassFile.FieldType)) ∈ lw_all := lw_g (lw_at lw_m16 98 rfl) rfl
theorem q3886 : (Jvm.Cond.methodLink "GroupJournalModel" (414 : Nat) ({ cls := "GroupJournalModel", name := "frames", desc := "(I)V" } : Jvm.MethodName)) ∈ lw_all := lw_g (lw_at lw_m16 99 rfl) rfl
theorem q3887 : (Jvm.Cond.privateMethod ({ cls := "GroupJournalModel", name := "frames", desc := "(I)V" } : Jvm.MethodName)) ∈ lw_tbl := lw_at lw_m16 100 rfl
theorem q3888 : (Jvm.Cond.instanceMethod ({ cls := "GroupJournalModel", name := "frames", desc := "(I)V" } : Jvm.MethodName)) ∈ lw_all := lw_g (lw_at lw_m16 101 rfl) rfl
theorem q3889 : (Jvm.Cond.code ({ cls := "GroupJournalModel", name := "frames", desc := "(I)V" } : Jvm.MethodName) prog_26_method_46_code (2 : Nat) (Option.none : Option Jvm.ClassFile.FieldType)) ∈ lw_all := lw_g (lw_at lw_m16 102 rfl) rfl
theorem q3890 : (Jvm.Cond.methodLink "GroupJournalModel" (417 : Nat) ({ cls := "GroupJournalModel", name := "payloadAt", desc := "(II)I" } : Jvm.MethodName)) ∈ lw_all := lw_g (lw_at lw_m16 103 rfl) rfl
theorem q3891 : (Jvm.Cond.privateMethod ({ cls := "GroupJournalModel", name := "payloadAt", desc := "(II)I" } : Jvm.MethodName)) ∈ lw_tbl := lw_at lw_m16 104 rfl
theorem q3892 : (Jvm.Cond.instanceMethod ({ cls := "GroupJournalModel", name := "payloadAt", desc := "(II)I" } : Jvm.MethodName)) ∈ lw_all := lw_g (lw_at lw_m16 105 rfl) rfl
theorem q3893 : (Jvm.Cond.code ({ cls := "GroupJournalModel", name := "payloadAt", desc := "(II)I" } : Jvm.MethodName) prog_26_method_32_code (4 : Nat) (Option.some Jvm.ClassFile.FieldType.int)) ∈ lw_all := lw_g (lw_at lw_m16 106 rfl) rfl
theorem q3894 : (Jvm.Cond.methodLink "GroupJournalModel" (461 : Nat) ({ cls := "GroupJournalModel", name := "ticksFor", desc := "()I" } : Jvm.MethodName)) ∈ lw_all := lw_g (lw_at lw_m16 107 rfl) rfl
theorem q3895 : (Jvm.Cond.privateMethod ({ cls := "GroupJournalModel", name := "ticksFor", desc := "()I" } : Jvm.MethodName)) ∈ lw_tbl := lw_at lw_m16 108 rfl
theorem q3896 : (Jvm.Cond.instanceMethod ({ cls := "GroupJournalModel", name := "ticksFor", desc := "()I" } : Jvm.MethodName)) ∈ lw_all := lw_g (lw_at lw_m16 109 rfl) rfl
theorem q3897 : (Jvm.Cond.code ({ cls := "GroupJournalModel", name := "ticksFor", desc := "()I" } : Jvm.MethodName) prog_26_method_51_code (3 : Nat) (Option.some Jvm.ClassFile.FieldType.int)) ∈ lw_all := lw_g (lw_at lw_m16 110 rfl) rfl
theorem q3898 : (Jvm.Cond.constantLong "GroupJournalModel" (452 : Nat) (99 : Int64)) ∈ lw_all := lw_g (lw_at lw_m16 111 rfl) rfl
theorem q3899 : (Jvm.Cond.methodLink "GroupJournalModel" (597 : Nat) ({ cls := "GroupJournalModel", name := "takesBack", desc := "()V" } : Jvm.MethodName)) ∈ lw_all := lw_g (lw_at lw_m16 112 rfl) rfl
theorem q3900 : (Jvm.Cond.privateMethod ({ cls := "GroupJournalModel", name := "takesBack", desc := "()V" } : Jvm.MethodName)) ∈ lw_tbl := lw_at lw_m16 113 rfl
theorem q3901 : (Jvm.Cond.instanceMethod ({ cls := "GroupJournalModel", name := "takesBack", desc := "()V" } : Jvm.MethodName)) ∈ lw_all := lw_g (lw_at lw_m16 114 rfl) rfl
theorem q3902 : (Jvm.Cond.code ({ cls := "GroupJournalModel", name := "takesBack", desc := "()V" } : Jvm.MethodName) prog_26_method_60_code (1 : Nat) (Option.none : Option Jvm.ClassFile.FieldType)) ∈ lw_all := lw_g (lw_at lw_m16 115 rfl) rfl
theorem q3903 : (Jvm.Cond.methodLink "GroupJournalModel" (491 : Nat) ({ cls := "GroupJournalModel", name := "triesAnew", desc := "()V" } : Jvm.MethodName)) ∈ lw_all := lw_g (lw_at lw_m16 116 rfl) rfl
theorem q3904 : (Jvm.Cond.privateMethod ({ cls := "GroupJournalModel", name := "triesAnew", desc := "()V" } : Jvm.MethodName)) ∈ lw_tbl := lw_at lw_m16 117 rfl
theorem q3905 : (Jvm.Cond.instanceMethod ({ cls := "GroupJournalModel", name := "triesAnew", desc := "()V" } : Jvm.MethodName)) ∈ lw_all := lw_g (lw_at lw_m16 118 rfl) rfl
theorem q3906 : (Jvm.Cond.code ({ cls := "GroupJournalModel", name := "triesAnew", desc := "()V" } : Jvm.MethodName) prog_26_method_59_code (2 : Nat) (Option.none : Option Jvm.ClassFile.FieldType)) ∈ lw_all := lw_g (lw_at lw_m16 119 rfl) rfl
theorem q3908 : (Jvm.Cond.instanceMethod ({ cls := "GroupJournalModel", name := "when", desc := "(I)I" } : Jvm.MethodName)) ∈ lw_all := lw_g (lw_at lw_m16 121 rfl) rfl
theorem q3909 : (Jvm.Cond.selects "GroupJournalModel" ({ cls := "GroupJournalModel", name := "when", desc := "(I)I" } : Jvm.MethodName) ({ cls := "GroupJournalModel", name := "when", desc := "(I)I" } : Jvm.MethodName)) ∈ lw_all := lw_g (lw_at lw_m16 122 rfl) rfl
theorem q3910 : (Jvm.Cond.code ({ cls := "GroupJournalModel", name := "when", desc := "(I)I" } : Jvm.MethodName) prog_26_method_92_code (2 : Nat) (Option.some Jvm.ClassFile.FieldType.int)) ∈ lw_all := lw_g (lw_at lw_m16 123 rfl) rfl
theorem q3911 : (Jvm.Cond.methodLink "GroupJournalModel" (600 : Nat) ({ cls := "GroupJournalModel", name := "ticksTill", desc := "(I)I" } : Jvm.MethodName)) ∈ lw_all := lw_g (lw_at lw_m16 124 rfl) rfl
theorem q3912 : (Jvm.Cond.privateMethod ({ cls := "GroupJournalModel", name := "ticksTill", desc := "(I)I" } : Jvm.MethodName)) ∈ lw_tbl := lw_at lw_m16 125 rfl
theorem q3913 : (Jvm.Cond.instanceMethod ({ cls := "GroupJournalModel", name := "ticksTill", desc := "(I)I" } : Jvm.MethodName)) ∈ lw_all := lw_g (lw_at lw_m16 126 rfl) rfl
theorem q3914 : (Jvm.Cond.code ({ cls := "GroupJournalModel", name := "ticksTill", desc := "(I)I" } : Jvm.MethodName) prog_26_method_91_code (4 : Nat) (Option.some Jvm.ClassFile.FieldType.int)) ∈ lw_all := lw_g (lw_at lw_m16 127 rfl) rfl
theorem q3916 : (Jvm.Cond.instanceMethod ({ cls := "GroupJournalModel", name := "rule", desc := "(II)I" } : Jvm.MethodName)) ∈ lw_all := lw_g (lw_at lw_m16 129 rfl) rfl
theorem q3917 : (Jvm.Cond.selects "GroupJournalModel" ({ cls := "GroupJournalModel", name := "rule", desc := "(II)I" } : Jvm.MethodName) ({ cls := "GroupJournalModel", name := "rule", desc := "(II)I" } : Jvm.MethodName)) ∈ lw_all := lw_g (lw_at lw_m16 130 rfl) rfl
theorem q3918 : (Jvm.Cond.code ({ cls := "GroupJournalModel", name := "rule", desc := "(II)I" } : Jvm.MethodName) prog_26_method_93_code (4 : Nat) (Option.some Jvm.ClassFile.FieldType.int)) ∈ lw_all := lw_g (lw_at lw_m16 131 rfl) rfl
theorem q3919 : (Jvm.Cond.constantLong "GroupJournalModel" (603 : Nat) (8 : Int64)) ∈ lw_all := lw_g (lw_at lw_m16 132 rfl) rfl
theorem q3921 : (Jvm.Cond.instanceMethod ({ cls := "GroupJournalModel", name := "best", desc := "(I)I" } : Jvm.MethodName)) ∈ lw_all := lw_g (lw_at lw_m16 134 rfl) rfl
theorem q3922 : (Jvm.Cond.selects "GroupJournalModel" ({ cls := "GroupJournalModel", name := "best", desc := "(I)I" } : Jvm.MethodName) ({ cls := "GroupJournalModel", name := "best", desc := "(I)I" } : Jvm.MethodName)) ∈ lw_all := lw_g (lw_at lw_m16 135 rfl) rfl
theorem q3923 : (Jvm.Cond.code ({ cls := "GroupJournalModel", name := "best", desc := "(I)I" } : Jvm.MethodName) prog_26_method_94_code (6 : Nat) (Option.some Jvm.ClassFile.FieldType.int)) ∈ lw_all := lw_g (lw_at lw_m16 136 rfl) rfl
theorem q3924 : (Jvm.Cond.methodLink "GroupJournalModel" (605 : Nat) ({ cls := "GroupJournalModel", name := "rule", desc := "(II)I" } : Jvm.MethodName)) ∈ lw_all := lw_g (lw_at lw_m16 137 rfl) rfl
theorem q3926 : (Jvm.Cond.instanceMethod ({ cls := "GroupJournalModel", name := "room", desc := "(I)I" } : Jvm.MethodName)) ∈ lw_all := lw_g (lw_at lw_m16 139 rfl) rfl
theorem q3927 : (Jvm.Cond.selects "GroupJournalModel" ({ cls := "GroupJournalModel", name := "room", desc := "(I)I" } : Jvm.MethodName) ({ cls := "GroupJournalModel", name := "room", desc := "(I)I" } : Jvm.MethodName)) ∈ lw_all := lw_g (lw_at lw_m16 140 rfl) rfl
theorem q3928 : (Jvm.Cond.code ({ cls := "GroupJournalModel", name := "room", desc := "(I)I" } : Jvm.MethodName) prog_26_method_95_code (3 : Nat) (Option.some Jvm.ClassFile.FieldType.int)) ∈ lw_all := lw_g (lw_at lw_m16 141 rfl) rfl
theorem q3929 : (Jvm.Cond.constantLong "GroupJournalModel" (608 : Nat) (40 : Int64)) ∈ lw_all := lw_g (lw_at lw_m16 142 rfl) rfl
theorem q3930 : (Jvm.Cond.methodLink "GroupJournalModel" (610 : Nat) ({ cls := "GroupJournalModel", name := "isLaidOf", desc := "(I)Z" } : Jvm.MethodName)) ∈ lw_all := lw_g (lw_at lw_m16 143 rfl) rfl
theorem q3931 : (Jvm.Cond.privateMethod ({ cls := "GroupJournalModel", name := "isLaidOf", desc := "(I)Z" } : Jvm.MethodName)) ∈ lw_tbl := lw_at lw_m16 144 rfl
theorem q3932 : (Jvm.Cond.instanceMethod ({ cls := "GroupJournalModel", name := "isLaidOf", desc := "(I)Z" } : Jvm.MethodName)) ∈ lw_all := lw_g (lw_at lw_m16 145 rfl) rfl
theorem q3933 : (Jvm.Cond.code ({ cls := "GroupJournalModel", name := "isLaidOf", desc := "(I)Z" } : Jvm.MethodName) prog_26_method_96_code (4 : Nat) (Option.some Jvm.ClassFile.FieldType.boolean)) ∈ lw_all := lw_g (lw_at lw_m16 146 rfl) rfl
theorem q3935 : (Jvm.Cond.instanceMethod ({ cls := "GroupJournalModel", name := "recovers", desc := "(II)I" } : Jvm.MethodName)) ∈ lw_all := lw_g (lw_at lw_m16 148 rfl) rfl
theorem q3936 : (Jvm.Cond.selects "GroupJournalModel" ({ cls := "GroupJournalModel", name := "recovers", desc := "(II)I" } : Jvm.MethodName) ({ cls := "GroupJournalModel", name := "recovers", desc := "(II)I" } : Jvm.MethodName)) ∈ lw_all := lw_g (lw_at lw_m16 149 rfl) rfl
theorem q3937 : (Jvm.Cond.code ({ cls := "GroupJournalModel", name := "recovers", desc := "(II)I" } : Jvm.MethodName) prog_26_method_98_code (4 : Nat) (Option.some Jvm.ClassFile.FieldType.int)) ∈ lw_all := lw_g (lw_at lw_m16 150 rfl) rfl
theorem q3938 : (Jvm.Cond.constantLong "GroupJournalModel" (547 : Nat) (4 : Int64)) ∈ lw_all := lw_g (lw_at lw_m16 151 rfl) rfl
theorem q3939 : (Jvm.Cond.methodLink "GroupJournalModel" (613 : Nat) ({ cls := "GroupJournalModel", name := "crashes", desc := "(I)V" } : Jvm.MethodName)) ∈ lw_all := lw_g (lw_at lw_m16 152 rfl) rfl
theorem q3940 : (Jvm.Cond.privateMethod ({ cls := "GroupJournalModel", name := "crashes", desc := "(I)V" } : Jvm.MethodName)) ∈ lw_tbl := lw_at lw_m16 153 rfl
theorem q3941 : (Jvm.Cond.instanceMethod ({ cls := "GroupJournalModel", name := "crashes", desc := "(I)V" } : Jvm.MethodName)) ∈ lw_all := lw_g (lw_at lw_m16 154 rfl) rfl
theorem q3942 : (Jvm.Cond.code ({ cls := "GroupJournalModel", name := "crashes", desc := "(I)V" } : Jvm.MethodName) prog_26_method_78_code (2 : Nat) (Option.none : Option Jvm.ClassFile.FieldType)) ∈ lw_all := lw_g (lw_at lw_m16 155 rfl) rfl
theorem q3943 : (Jvm.Cond.methodLink "GroupJournalModel" (564 : Nat) ({ cls := "GroupJournalModel", name := "recovering", desc := "()V" } : Jvm.MethodName)) ∈ lw_all := lw_g (lw_at lw_m16 156 rfl) rfl
theorem q3944 : (Jvm.Cond.privateMethod ({ cls := "GroupJournalModel", name := "recovering", desc := "()V" } : Jvm.MethodName)) ∈ lw_tbl := lw_at lw_m16 157 rfl
theorem q3945 : (Jvm.Cond.instanceMethod ({ cls := "GroupJournalModel", name := "recovering", desc := "()V" } : Jvm.MethodName)) ∈ lw_all := lw_g (lw_at lw_m16 158 rfl) rfl
theorem q3946 : (Jvm.Cond.code ({ cls := "GroupJournalModel", name := "recovering", desc := "()V" } : Jvm.MethodName) prog_26_method_76_code (3 : Nat) (Option.none : Option Jvm.ClassFile.FieldType)) ∈ lw_all := lw_g (lw_at lw_m16 159 rfl) rfl
theorem q3947 : (Jvm.Cond.methodLink "GroupJournalModel" (549 : Nat) ({ cls := "GroupJournalModel", name := "beginner", desc := "()I" } : Jvm.MethodName)) ∈ lw_all := lw_g (lw_at lw_m16 160 rfl) rfl
theorem q3948 : (Jvm.Cond.privateMethod ({ cls := "GroupJournalModel", name := "beginner", desc := "()I" } : Jvm.MethodName)) ∈ lw_tbl := lw_at lw_m16 161 rfl
theorem q3949 : (Jvm.Cond.instanceMethod ({ cls := "GroupJournalModel", name := "beginner", desc := "()I" } : Jvm.MethodName)) ∈ lw_all := lw_g (lw_at lw_m16 162 rfl) rfl
theorem q3950 : (Jvm.Cond.code ({ cls := "GroupJournalModel", name := "beginner", desc := "()I" } : Jvm.MethodName) prog_26_method_71_code (3 : Nat) (Option.some Jvm.ClassFile.FieldType.int)) ∈ lw_all := lw_g (lw_at lw_m16 163 rfl) rfl
theorem q3951 : (Jvm.Cond.methodLink "GroupJournalModel" (552 : Nat) ({ cls := "GroupJournalModel", name := "follower", desc := "(I)I" } : Jvm.MethodName)) ∈ lw_all := lw_g (lw_at lw_m16 164 rfl) rfl
theorem q3952 : (Jvm.Cond.privateMethod ({ cls := "GroupJournalModel", name := "follower", desc := "(I)I" } : Jvm.MethodName)) ∈ lw_tbl := lw_at lw_m16 165 rfl
theorem q3953 : (Jvm.Cond.instanceMethod ({ cls := "GroupJournalModel", name := "follower", desc := "(I)I" } : Jvm.MethodName)) ∈ lw_all := lw_g (lw_at lw_m16 166 rfl) rfl
theorem q3954 : (Jvm.Cond.code ({ cls := "GroupJournalModel", name := "follower", desc := "(I)I" } : Jvm.MethodName) prog_26_method_73_code (4 : Nat) (Option.some Jvm.ClassFile.FieldType.int)) ∈ lw_all := lw_g (lw_at lw_m16 167 rfl) rfl
theorem q3955 : (Jvm.Cond.methodLink "GroupJournalModel" (544 : Nat) ({ cls := "GroupJournalModel", name := "isGreater", desc := "(II)Z" } : Jvm.MethodName)) ∈ lw_all := lw_g (lw_at lw_m16 168 rfl) rfl
theorem q3956 : (Jvm.Cond.privateMethod ({ cls := "GroupJournalModel", name := "isGreater", desc := "(II)Z" } : Jvm.MethodName)) ∈ lw_tbl := lw_at lw_m16 169 rfl
theorem q3957 : (Jvm.Cond.instanceMethod ({ cls := "GroupJournalModel", name := "isGreater", desc := "(II)Z" } : Jvm.MethodName)) ∈ lw_all := lw_g (lw_at lw_m16 170 rfl) rfl
theorem q3958 : (Jvm.Cond.code ({ cls := "GroupJournalModel", name := "isGreater", desc := "(II)Z" } : Jvm.MethodName) prog_26_method_72_code (3 : Nat) (Option.some Jvm.ClassFile.FieldType.boolean)) ∈ lw_all := lw_g (lw_at lw_m16 171 rfl) rfl
theorem q3959 : (Jvm.Cond.methodLink "GroupJournalModel" (555 : Nat) ({ cls := "GroupJournalModel", name := "endsWithoutGround", desc := "()V" } : Jvm.MethodName)) ∈ lw_all := lw_g (lw_at lw_m16 172 rfl) rfl
theorem q3960 : (Jvm.Cond.privateMethod ({ cls := "GroupJournalModel", name := "endsWithoutGround", desc := "()V" } : Jvm.MethodName)) ∈ lw_tbl := lw_at lw_m16 173 rfl
theorem q3961 : (Jvm.Cond.instanceMethod ({ cls := "GroupJournalModel", name := "endsWithoutGround", desc := "()V" } : Jvm.MethodName)) ∈ lw_all := lw_g (lw_at lw_m16 174 rfl) rfl
theorem q3962 : (Jvm.Cond.code ({ cls := "GroupJournalModel", name := "endsWithoutGround", desc := "()V" } : Jvm.MethodName) prog_26_method_77_code (2 : Nat) (Option.none : Option Jvm.ClassFile.FieldType)) ∈ lw_all := lw_g (lw_at lw_m16 175 rfl) rfl
theorem q3963 : (Jvm.Cond.methodLink "GroupJournalModel" (558 : Nat) ({ cls := "GroupJournalModel", name := "isDamaged", desc := "(I)Z" } : Jvm.MethodName)) ∈ lw_all := lw_g (lw_at lw_m16 176 rfl) rfl
theorem q3964 : (Jvm.Cond.privateMethod ({ cls := "GroupJournalModel", name := "isDamaged", desc := "(I)Z" } : Jvm.MethodName)) ∈ lw_tbl := lw_at lw_m16 177 rfl
theorem q3965 : (Jvm.Cond.instanceMethod ({ cls := "GroupJournalModel", name := "isDamaged", desc := "(I)Z" } : Jvm.MethodName)) ∈ lw_all := lw_g (lw_at lw_m16 178 rfl) rfl
theorem q3966 : (Jvm.Cond.code ({ cls := "GroupJournalModel", name := "isDamaged", desc := "(I)Z" } : Jvm.MethodName) prog_26_method_74_code (3 : Nat) (Option.some Jvm.ClassFile.FieldType.boolean)) ∈ lw_all := lw_g (lw_at lw_m16 179 rfl) rfl
theorem q3967 : (Jvm.Cond.methodLink "GroupJournalModel" (561 : Nat) ({ cls := "GroupJournalModel", name := "zeroes", desc := "(II)I" } : Jvm.MethodName)) ∈ lw_all := lw_g (lw_at lw_m16 180 rfl) rfl
theorem q3968 : (Jvm.Cond.privateMethod ({ cls := "GroupJournalModel", name := "zeroes", desc := "(II)I" } : Jvm.MethodName)) ∈ lw_tbl := lw_at lw_m16 181 rfl
theorem q3969 : (Jvm.Cond.instanceMethod ({ cls := "GroupJournalModel", name := "zeroes", desc := "(II)I" } : Jvm.MethodName)) ∈ lw_all := lw_g (lw_at lw_m16 182 rfl) rfl
theorem q3970 : (Jvm.Cond.code ({ cls := "GroupJournalModel", name := "zeroes", desc := "(II)I" } : Jvm.MethodName) prog_26_method_75_code (5 : Nat) (Option.some Jvm.ClassFile.FieldType.int)) ∈ lw_all := lw_g (lw_at lw_m16 183 rfl) rfl
theorem q3971 : (Jvm.Cond.methodLink "GroupJournalModel" (616 : Nat) ({ cls := "GroupJournalModel", name := "keyMany", desc := "()I" } : Jvm.MethodName)) ∈ lw_all := lw_g (lw_at lw_m16 184 rfl) rfl
theorem q3972 : (Jvm.Cond.privateMethod ({ cls := "GroupJournalModel", name := "keyMany", desc := "()I" } : Jvm.MethodName)) ∈ lw_tbl := lw_at lw_m16 185 rfl
theorem q3973 : (Jvm.Cond.instanceMethod ({ cls := "GroupJournalModel", name := "keyMany", desc := "()I" } : Jvm.MethodName)) ∈ lw_all := lw_g (lw_at lw_m16 186 rfl) rfl
theorem q3974 : (Jvm.Cond.code ({ cls := "GroupJournalModel", name := "keyMany", desc := "()I" } : Jvm.MethodName) prog_26_method_97_code (3 : Nat) (Option.some Jvm.ClassFile.FieldType.int)) ∈ lw_all := lw_g (lw_at lw_m16 187 rfl) rfl
theorem q3976 : (Jvm.Cond.instanceMethod ({ cls := "GroupJournalModel", name := "flips", desc := "(I)I" } : Jvm.MethodName)) ∈ lw_all := lw_g (lw_at lw_m16 189 rfl) rfl
theorem q3977 : (Jvm.Cond.selects "GroupJournalModel" ({ cls := "GroupJournalModel", name := "flips", desc := "(I)I" } : Jvm.MethodName) ({ cls := "GroupJournalModel", name := "flips", desc := "(I)I" } : Jvm.MethodName)) ∈ lw_all := lw_g (lw_at lw_m16 190 rfl) rfl
theorem q3978 : (Jvm.Cond.code ({ cls := "GroupJournalModel", name := "flips", desc := "(I)I" } : Jvm.MethodName) prog_26_method_100_code (7 : Nat) (Option.some Jvm.ClassFile.FieldType.int)) ∈ lw_all := lw_g (lw_at lw_m16 191 rfl) rfl
theorem q3979 : (Jvm.Cond.methodLink "GroupJournalModel" (619 : Nat) ({ cls := "GroupJournalModel", name := "turns", desc := "(I)V" } : Jvm.MethodName)) ∈ lw_all := lw_g (lw_at lw_m16 192 rfl) rfl
theorem q3980 : (Jvm.Cond.privateMethod ({ cls := "GroupJournalModel", name := "turns", desc := "(I)V" } : Jvm.MethodName)) ∈ lw_tbl := lw_at lw_m16 193 rfl
theorem q3981 : (Jvm.Cond.instanceMethod ({ cls := "GroupJournalModel", name := "turns", desc := "(I)V" } : Jvm.MethodName)) ∈ lw_all := lw_g (lw_at lw_m16 194 rfl) rfl
theorem q3982 : (Jvm.Cond.code ({ cls := "GroupJournalModel", name := "turns", desc := "(I)V" } : Jvm.MethodName) prog_26_method_99_code (2 : Nat) (Option.none : Option Jvm.ClassFile.FieldType)) ∈ lw_all := lw_g (lw_at lw_m16 195 rfl) rfl
theorem q3984 : (Jvm.Cond.instanceMethod ({ cls := "GroupJournalModel", name := "see", desc := "()I" } : Jvm.MethodName)) ∈ lw_all := lw_g (lw_at lw_m16 197 rfl) rfl
theorem q3985 : (Jvm.Cond.selects "GroupJournalModel" ({ cls := "GroupJournalModel", name := "see", desc := "()I" } : Jvm.MethodName) ({ cls := "GroupJournalModel", name := "see", desc := "()I" } : Jvm.MethodName)) ∈ lw_all := lw_g (lw_at lw_m16 198 rfl) rfl
theorem q3986 : (Jvm.Cond.code ({ cls := "GroupJournalModel", name := "see", desc := "()I" } : Jvm.MethodName) prog_26_method_101_code (4 : Nat) (Option.some Jvm.ClassFile.FieldType.int)) ∈ lw_all := lw_g (lw_at lw_m16 199 rfl) rfl
theorem q3988 : (Jvm.Cond.instanceMethod ({ cls := "GroupJournalModel", name := "arrived", desc := "(I)I" } : Jvm.MethodName)) ∈ lw_all := lw_g (lw_at lw_m16 201 rfl) rfl
theorem q3989 : (Jvm.Cond.selects "GroupJournalModel" ({ cls := "GroupJournalModel", name := "arrived", desc := "(I)I" } : Jvm.MethodName) ({ cls := "GroupJournalModel", name := "arrived", desc := "(I)I" } : Jvm.MethodName)) ∈ lw_all := lw_g (lw_at lw_m16 202 rfl) rfl
theorem q3990 : (Jvm.Cond.code ({ cls := "GroupJournalModel", name := "arrived", desc := "(I)I" } : Jvm.MethodName) prog_26_method_104_code (4 : Nat) (Option.some Jvm.ClassFile.FieldType.int)) ∈ lw_all := lw_g (lw_at lw_m16 203 rfl) rfl
theorem q3991 : (Jvm.Cond.methodLink "GroupJournalModel" (628 : Nat) ({ cls := "GroupJournalModel", name := "laysArrived", desc := "()V" } : Jvm.MethodName)) ∈ lw_all := lw_g (lw_at lw_m16 204 rfl) rfl
theorem q3992 : (Jvm.Cond.privateMethod ({ cls := "GroupJournalModel", name := "laysArrived", desc := "()V" } : Jvm.MethodName)) ∈ lw_tbl := lw_at lw_m16 205 rfl
theorem q3993 : (Jvm.Cond.instanceMethod ({ cls := "GroupJournalModel", name := "laysArrived", desc := "()V" } : Jvm.MethodName)) ∈ lw_all := lw_g (lw_at lw_m16 206 rfl) rfl
theorem q3994 : (Jvm.Cond.code ({ cls := "GroupJournalModel", name := "laysArrived", desc := "()V" } : Jvm.MethodName) prog_26_method_103_code (4 : Nat) (Option.none : Option Jvm.ClassFile.FieldType)) ∈ lw_all := lw_g (lw_at lw_m16 207 rfl) rfl
theorem q3995 : (Jvm.Cond.methodLink "GroupJournalModel" (625 : Nat) ({ cls := "GroupJournalModel", name := "isAsSeen", desc := "(I)Z" } : Jvm.MethodName)) ∈ lw_all := lw_g (lw_at lw_m16 208 rfl) rfl
theorem q3996 : (Jvm.Cond.privateMethod ({ cls := "GroupJournalModel", name := "isAsSeen", desc := "(I)Z" } : Jvm.MethodName)) ∈ lw_tbl := lw_at lw_m16 209 rfl
theorem q3997 : (Jvm.Cond.instanceMethod ({ cls := "GroupJournalModel", name := "isAsSeen", desc := "(I)Z" } : Jvm.MethodName)) ∈ lw_all := lw_g (lw_at lw_m16 210 rfl) rfl
theorem q3998 : (Jvm.Cond.code ({ cls := "GroupJournalModel", name := "isAsSeen", desc := "(I)Z" } : Jvm.MethodName) prog_26_method_102_code (3 : Nat) (Option.some Jvm.ClassFile.FieldType.boolean)) ∈ lw_all := lw_g (lw_at lw_m16 211 rfl) rfl
theorem q4000 : (Jvm.Cond.instanceMethod ({ cls := "GroupJournalModel", name := "tells", desc := "(I)I" } : Jvm.MethodName)) ∈ lw_all := lw_g (lw_at lw_m16 213 rfl) rfl
theorem q4001 : (Jvm.Cond.selects "GroupJournalModel" ({ cls := "GroupJournalModel", name := "tells", desc := "(I)I" } : Jvm.MethodName) ({ cls := "GroupJournalModel", name := "tells", desc := "(I)I" } : Jvm.MethodName)) ∈ lw_all := lw_g (lw_at lw_m16 214 rfl) rfl
theorem q4002 : (Jvm.Cond.code ({ cls := "GroupJournalModel", name := "tells", desc := "(I)I" } : Jvm.MethodName) prog_26_method_106_code (6 : Nat) (Option.some Jvm.ClassFile.FieldType.int)) ∈ lw_all := lw_g (lw_at lw_m16 215 rfl) rfl
theorem q4003 : (Jvm.Cond.methodLink "GroupJournalModel" (631 : Nat) ({ cls := "GroupJournalModel", name := "mostAlike", desc := "(I)I" } : Jvm.MethodName)) ∈ lw_all := lw_g (lw_at lw_m16 216 rfl) rfl
theorem q4004 : (Jvm.Cond.privateMethod ({ cls := "GroupJournalModel", name := "mostAlike", desc := "(I)I" } : Jvm.MethodName)) ∈ lw_tbl := lw_at lw_m16 217 rfl
theorem q4005 : (Jvm.Cond.instanceMethod ({ cls := "GroupJournalModel", name := "mostAlike", desc := "(I)I" } : Jvm.MethodName)) ∈ lw_all := lw_g (lw_at lw_m16 218 rfl) rfl
theorem q4006 : (Jvm.Cond.code ({ cls := "GroupJournalModel", name := "mostAlike", desc := "(I)I" } : Jvm.MethodName) prog_26_method_105_code (5 : Nat) (Option.some Jvm.ClassFile.FieldType.int)) ∈ lw_all := lw_g (lw_at lw_m16 219 rfl) rfl
theorem q4008 : (Jvm.Cond.instanceMethod ({ cls := "GroupJournalModel", name := "undo", desc := "()Z" } : Jvm.MethodName)) ∈ lw_all := lw_g (lw_at lw_m16 221 rfl) rfl
theorem q4009 : (Jvm.Cond.selects "GroupJournalModel" ({ cls := "GroupJournalModel", name := "undo", desc := "()Z" } : Jvm.MethodName) ({ cls := "GroupJournalModel", name := "undo", desc := "()Z" } : Jvm.MethodName)) ∈ lw_all := lw_g (lw_at lw_m16 222 rfl) rfl
theorem q4010 : (Jvm.Cond.code ({ cls := "GroupJournalModel", name := "undo", desc := "()Z" } : Jvm.MethodName) prog_26_method_108_code (2 : Nat) (Option.some Jvm.ClassFile.FieldType.boolean)) ∈ lw_all := lw_g (lw_at lw_m16 223 rfl) rfl
theorem q4012 : (Jvm.Cond.instanceMethod ({ cls := "GroupJournalModel", name := "append", desc := "(III)I" } : Jvm.MethodName)) ∈ lw_all := lw_g (lw_at lw_m16 225 rfl) rfl
theorem q4013 : (Jvm.Cond.selects "GroupJournalModel" ({ cls := "GroupJournalModel", name := "append", desc := "(III)I" } : Jvm.MethodName) ({ cls := "GroupJournalModel", name := "append", desc := "(III)I" } : Jvm.MethodName)) ∈ lw_all := lw_g (lw_at lw_m16 226 rfl) rfl
theorem q4014 : (Jvm.Cond.code ({ cls := "GroupJournalModel", name := "append", desc := "(III)I" } : Jvm.MethodName) prog_26_method_113_code (4 : Nat) (Option.some Jvm.ClassFile.FieldType.int)) ∈ lw_all := lw_g (lw_at lw_m16 227 rfl) rfl
theorem q4015 : (Jvm.Cond.constantLong "GroupJournalModel" (637 : Nat) (999 : Int64)) ∈ lw_all := lw_g (lw_at lw_m16 228 rfl) rfl
theorem q4016 : (Jvm.Cond.methodLink "GroupJournalModel" (639 : Nat) ({ cls := "GroupJournalModel", name := "keeps", desc := "()V" } : Jvm.MethodName)) ∈ lw_all := lw_g (lw_at lw_m16 229 rfl) rfl
theorem q4017 : (Jvm.Cond.privateMethod ({ cls := "GroupJournalModel", name := "keeps", desc := "()V" } : Jvm.MethodName)) ∈ lw_tbl := lw_at lw_m16 230 rfl
theorem q4018 : (Jvm.Cond.instanceMethod ({ cls := "GroupJournalModel", name := "keeps", desc := "()V" } : Jvm.MethodName)) ∈ lw_all := lw_g (lw_at lw_m16 231 rfl) rfl
theorem q4019 : (Jvm.Cond.code ({ cls := "GroupJournalModel", name := "keeps", desc := "()V" } : Jvm.MethodName) prog_26_method_107_code (2 : Nat) (Option.none : Option Jvm.ClassFile.FieldType)) ∈ lw_all := lw_g (lw_at lw_m16 232 rfl) rfl
theorem q4021 : (Jvm.Cond.instanceMethod ({ cls := "GroupJournalModel", name := "waits", desc := "(II)Z" } : Jvm.MethodName)) ∈ lw_all := lw_g (lw_at lw_m16 234 rfl) rfl
theorem q4022 : (Jvm.Cond.selects "GroupJournalModel" ({ cls := "GroupJournalModel", name := "waits", desc := "(II)Z" } : Jvm.MethodName) ({ cls := "GroupJournalModel", name := "waits", desc := "(II)Z" } : Jvm.MethodName)) ∈ lw_all := lw_g (lw_at lw_m16 235 rfl) rfl
theorem q4023 : (Jvm.Cond.code ({ cls := "GroupJournalModel", name := "waits", desc := "(II)Z" } : Jvm.MethodName) prog_26_method_114_code (3 : Nat) (Option.some Jvm.ClassFile.FieldType.boolean)) ∈ lw_all := lw_g (lw_at lw_m16 236 rfl) rfl
theorem q4024 : (Jvm.Cond.methodLink "GroupJournalModel" (642 : Nat) ({ cls := "GroupJournalModel", name := "isRefused", desc := "(I)Z" } : Jvm.MethodName)) ∈ lw_all := lw_g (lw_at lw_m16 237 rfl) rfl
theorem q4025 : (Jvm.Cond.privateMethod ({ cls := "GroupJournalModel", name := "isRefused", desc := "(I)Z" } : Jvm.MethodName)) ∈ lw_tbl := lw_at lw_m16 238 rfl
theorem q4026 : (Jvm.Cond.instanceMethod ({ cls := "GroupJournalModel", name := "isRefused", desc := "(I)Z" } : Jvm.MethodName)) ∈ lw_all := lw_g (lw_at lw_m16 239 rfl) rfl
theorem q4027 : (Jvm.Cond.code ({ cls := "GroupJournalModel", name := "isRefused", desc := "(I)Z" } : Jvm.MethodName) prog_26_method_110_code (2 : Nat) (Option.some Jvm.ClassFile.FieldType.boolean)) ∈ lw_all := lw_g (lw_at lw_m17 0 rfl) rfl
theorem q4029 : (Jvm.Cond.instanceMethod ({ cls := "GroupJournalModel", name := "ticks", desc := "(I)I" } : Jvm.MethodName)) ∈ lw_all := lw_g (lw_at lw_m17 2 rfl) rfl
theorem q4030 : (Jvm.Cond.selects "GroupJournalModel" ({ cls := "GroupJournalModel", name := "ticks", desc := "(I)I" } : Jvm.MethodName) ({ cls := "GroupJournalModel", name := "ticks", desc := "(I)I" } : Jvm.MethodName)) ∈ lw_all := lw_g (lw_at lw_m17 3 rfl) rfl
theorem q4031 : (Jvm.Cond.code ({ cls := "GroupJournalModel", name := "ticks", desc := "(I)I" } : Jvm.MethodName) prog_26_method_115_code (2 : Nat) (Option.some Jvm.ClassFile.FieldType.int)) ∈ lw_all := lw_g (lw_at lw_m17 4 rfl) rfl
theorem q4033 : (Jvm.Cond.instanceMethod ({ cls := "GroupJournalModel", name := "seed", desc := "(I)Z" } : Jvm.MethodName)) ∈ lw_all := lw_g (lw_at lw_m17 6 rfl) rfl
theorem q4034 : (Jvm.Cond.selects "GroupJournalModel" ({ cls := "GroupJournalModel", name := "seed", desc := "(I)Z" } : Jvm.MethodName) ({ cls := "GroupJournalModel", name := "seed", desc := "(I)Z" } : Jvm.MethodName)) ∈ lw_all := lw_g (lw_at lw_m17 7 rfl) rfl
theorem q4035 : (Jvm.Cond.code ({ cls := "GroupJournalModel", name := "seed", desc := "(I)Z" } : Jvm.MethodName) prog_26_method_116_code (2 : Nat) (Option.some Jvm.ClassFile.FieldType.boolean)) ∈ lw_all := lw_g (lw_at lw_m17 8 rfl) rfl
theorem q4037 : (Jvm.Cond.instanceMethod ({ cls := "GroupJournalModel", name := "chance", desc := "(I)I" } : Jvm.MethodName)) ∈ lw_all := lw_g (lw_at lw_m17 10 rfl) rfl
theorem q4038 : (Jvm.Cond.selects "GroupJournalModel" ({ cls := "GroupJournalModel", name := "chance", desc := "(I)I" } : Jvm.MethodName) ({ cls := "GroupJournalModel", name := "chance", desc := "(I)I" } : Jvm.MethodName)) ∈ lw_all := lw_g (lw_at lw_m17 11 rfl) rfl
theorem q4039 : (Jvm.Cond.code ({ cls := "GroupJournalModel", name := "chance", desc := "(I)I" } : Jvm.MethodName) prog_26_method_118_code (5 : Nat) (Option.some Jvm.ClassFile.FieldType.int)) ∈ lw_all := lw_g (lw_at lw_m17 12 rfl) rfl
theorem q4040 : (Jvm.Cond.methodLink "GroupJournalModel" (653 : Nat) ({ cls := "GroupJournalModel", name := "drawOf", desc := "(I)I" } : Jvm.MethodName)) ∈ lw_all := lw_g (lw_at lw_m17 13 rfl) rfl
theorem q4041 : (Jvm.Cond.privateMethod ({ cls := "GroupJournalModel", name := "drawOf", desc := "(I)I" } : Jvm.MethodName)) ∈ lw_tbl := lw_at lw_m17 14 rfl
theorem q4042 : (Jvm.Cond.instanceMethod ({ cls := "GroupJournalModel", name := "drawOf", desc := "(I)I" } : Jvm.MethodName)) ∈ lw_all := lw_g (lw_at lw_m17 15 rfl) rfl
theorem q4043 : (Jvm.Cond.code ({ cls := "GroupJournalModel", name := "drawOf", desc := "(I)I" } : Jvm.MethodName) prog_26_method_117_code (2 : Nat) (Option.some Jvm.ClassFile.FieldType.int)) ∈ lw_all := lw_g (lw_at lw_m17 16 rfl) rfl
theorem q4044 : (Jvm.Cond.constantLong "GroupJournalModel" (645 : Nat) (1103515245 : Int64)) ∈ lw_all := lw_g (lw_at lw_m17 17 rfl) rfl
theorem q4045 : (Jvm.Cond.constantLong "GroupJournalModel" (647 : Nat) (12345 : Int64)) ∈ lw_all := lw_g (lw_at lw_m17 18 rfl) rfl
theorem q4046 : (Jvm.Cond.constantLong "GroupJournalModel" (649 : Nat) (2147483648 : Int64)) ∈ lw_all := lw_g (lw_at lw_m17 19 rfl) rfl
theorem q4047 : (Jvm.Cond.constantLong "GroupJournalModel" (651 : Nat) (64 : Int64)) ∈ lw_all := lw_g (lw_at lw_m17 20 rfl) rfl
theorem q4049 : (Jvm.Cond.instanceMethod ({ cls := "GroupJournalModel", name := "snap", desc := "()I" } : Jvm.MethodName)) ∈ lw_all := lw_g (lw_at lw_m17 22 rfl) rfl
theorem q4050 : (Jvm.Cond.selects "GroupJournalModel" ({ cls := "GroupJournalModel", name := "snap", desc := "()I" } : Jvm.MethodName) ({ cls := "GroupJournalModel", name := "snap", desc := "()I" } : Jvm.MethodName)) ∈ lw_all := lw_g (lw_at lw_m17 23 rfl) rfl
theorem q4051 : (Jvm.Cond.code ({ cls := "GroupJournalModel", name := "snap", desc := "()I" } : Jvm.MethodName) prog_26_method_119_code (2 : Nat) (Option.some Jvm.ClassFile.FieldType.int)) ∈ lw_all := lw_g (lw_at lw_m17 24 rfl) rfl
theorem q4053 : (Jvm.Cond.instanceMethod ({ cls := "GroupJournalModel", name := "crash", desc := "(I)I" } : Jvm.MethodName)) ∈ lw_all := lw_g (lw_at lw_m17 26 rfl) rfl
theorem q4054 : (Jvm.Cond.selects "GroupJournalModel" ({ cls := "GroupJournalModel", name := "crash", desc := "(I)I" } : Jvm.MethodName) ({ cls := "GroupJournalModel", name := "crash", desc := "(I)I" } : Jvm.MethodName)) ∈ lw_all := lw_g (lw_at lw_m17 27 rfl) rfl
theorem q4055 : (Jvm.Cond.code ({ cls := "GroupJournalModel", name := "crash", desc := "(I)I" } : Jvm.MethodName) prog_26_method_120_code (2 : Nat) (Option.some Jvm.ClassFile.FieldType.int)) ∈ lw_all := lw_g (lw_at lw_m17 28 rfl) rfl
theorem q4057 : (Jvm.Cond.instanceMethod ({ cls := "GroupJournalModel", name := "giveUp", desc := "()I" } : Jvm.MethodName)) ∈ lw_all := lw_g (lw_at lw_m17 30 rfl) rfl
theorem q4058 : (Jvm.Cond.selects "GroupJournalModel" ({ cls := "GroupJournalModel", name := "giveUp", desc := "()I" } : Jvm.MethodName) ({ cls := "GroupJournalModel", name := "giveUp", desc := "()I" } : Jvm.MethodName)) ∈ lw_all := lw_g (lw_at lw_m17 31 rfl) rfl
theorem q4059 : (Jvm.Cond.code ({ cls := "GroupJournalModel", name := "giveUp", desc := "()I" } : Jvm.MethodName) prog_26_method_121_code (4 : Nat) (Option.some Jvm.ClassFile.FieldType.int)) ∈ lw_all := lw_g (lw_at lw_m17 32 rfl) rfl
theorem q4061 : (Jvm.Cond.instanceMethod ({ cls := "GroupJournalModel", name := "flip", desc := "(II)I" } : Jvm.MethodName)) ∈ lw_all := lw_g (lw_at lw_m17 34 rfl) rfl
theorem q4062 : (Jvm.Cond.selects "GroupJournalModel" ({ cls := "GroupJournalModel", name := "flip", desc := "(II)I" } : Jvm.MethodName) ({ cls := "GroupJournalModel", name := "flip", desc := "(II)I" } : Jvm.MethodName)) ∈ lw_all := lw_g (lw_at lw_m17 35 rfl) rfl
theorem q4063 : (Jvm.Cond.code ({ cls := "GroupJournalModel", name := "flip", desc := "(II)I" } : Jvm.MethodName) prog_26_method_122_code (3 : Nat) (Option.some Jvm.ClassFile.FieldType.int)) ∈ lw_all := lw_g (lw_at lw_m17 36 rfl) rfl
theorem q4065 : (Jvm.Cond.instanceMethod ({ cls := "GroupJournalModel", name := "ask", desc := "()J" } : Jvm.MethodName)) ∈ lw_all := lw_g (lw_at lw_m17 38 rfl) rfl
theorem q4066 : (Jvm.Cond.selects "GroupJournalModel" ({ cls := "GroupJournalModel", name := "ask", desc := "()J" } : Jvm.MethodName) ({ cls := "GroupJournalModel", name := "ask", desc := "()J" } : Jvm.MethodName)) ∈ lw_all := lw_g (lw_at lw_m17 39 rfl) rfl
theorem q4067 : (Jvm.Cond.code ({ cls := "GroupJournalModel", name := "ask", desc := "()J" } : Jvm.MethodName) prog_26_method_151_code (3 : Nat) (Option.some Jvm.ClassFile.FieldType.long)) ∈ lw_all := lw_g (lw_at lw_m17 40 rfl) rfl
theorem q4068 : (Jvm.Cond.constantLong "GroupJournalModel" (737 : Nat) (-1000000000000000 : Int64)) ∈ lw_all := lw_g (lw_at lw_m17 41 rfl) rfl
theorem q4069 : (Jvm.Cond.methodLink "GroupJournalModel" (739 : Nat) ({ cls := "GroupJournalModel", name := "qKind", desc := "()I" } : Jvm.MethodName)) ∈ lw_all := lw_g (lw_at lw_m17 42 rfl) rfl
theorem q4070 : (Jvm.Cond.privateMethod ({ cls := "GroupJournalModel", name := "qKind", desc := "()I" } : Jvm.MethodName)) ∈ lw_tbl := lw_at lw_m17 43 rfl
theorem q4071 : (Jvm.Cond.instanceMethod ({ cls := "GroupJournalModel", name := "qKind", desc := "()I" } : Jvm.MethodName)) ∈ lw_all := lw_g (lw_at lw_m17 44 rfl) rfl
theorem q4072 : (Jvm.Cond.code ({ cls := "GroupJournalModel", name := "qKind", desc := "()I" } : Jvm.MethodName) prog_26_method_149_code (2 : Nat) (Option.some Jvm.ClassFile.FieldType.int)) ∈ lw_all := lw_g (lw_at lw_m17 45 rfl) rfl
theorem q4073 : (Jvm.Cond.constantLong "GroupJournalModel" (732 : Nat) (-1 : Int64)) ∈ lw_all := lw_g (lw_at lw_m17 46 rfl) rfl
theorem q4074 : (Jvm.Cond.methodLink "GroupJournalModel" (742 : Nat) ({ cls := "GroupJournalModel", name := "qTold", desc := "(I)J" } : Jvm.MethodName)) ∈ lw_all := lw_g (lw_at lw_m17 47 rfl) rfl
theorem q4075 : (Jvm.Cond.privateMethod ({ cls := "GroupJournalModel", name := "qTold", desc := "(I)J" } : Jvm.MethodName)) ∈ lw_tbl := lw_at lw_m17 48 rfl
theorem q4076 : (Jvm.Cond.instanceMethod ({ cls := "GroupJournalModel", name := "qTold", desc := "(I)J" } : Jvm.MethodName)) ∈ lw_all := lw_g (lw_at lw_m17 49 rfl) rfl
theorem q4077 : (Jvm.Cond.code ({ cls := "GroupJournalModel", name := "qTold", desc := "(I)J" } : Jvm.MethodName) prog_26_method_148_code (4 : Nat) (Option.some Jvm.ClassFile.FieldType.long)) ∈ lw_all := lw_g (lw_at lw_m17 50 rfl) rfl
theorem q4078 : (Jvm.Cond.methodLink "GroupJournalModel" (725 : Nat) ({ cls := "GroupJournalModel", name := "qOf", desc := "(IJI)J" } : Jvm.MethodName)) ∈ lw_all := lw_g (lw_at lw_m17 51 rfl) rfl
theorem q4079 : (Jvm.Cond.privateMethod ({ cls := "GroupJournalModel", name := "qOf", desc := "(IJI)J" } : Jvm.MethodName)) ∈ lw_tbl := lw_at lw_m17 52 rfl
theorem q4080 : (Jvm.Cond.instanceMethod ({ cls := "GroupJournalModel", name := "qOf", desc := "(IJI)J" } : Jvm.MethodName)) ∈ lw_all := lw_g (lw_at lw_m17 53 rfl) rfl
theorem q4081 : (Jvm.Cond.code ({ cls := "GroupJournalModel", name := "qOf", desc := "(IJI)J" } : Jvm.MethodName) prog_26_method_147_code (5 : Nat) (Option.some Jvm.ClassFile.FieldType.long)) ∈ lw_all := lw_g (lw_at lw_m17 54 rfl) rfl
theorem q4082 : (Jvm.Cond.methodLink "GroupJournalModel" (745 : Nat) ({ cls := "GroupJournalModel", name := "qTakes", desc := "(IJI)V" } : Jvm.MethodName)) ∈ lw_all := lw_g (lw_at lw_m17 55 rfl) rfl
theorem q4083 : (Jvm.Cond.privateMethod ({ cls := "GroupJournalModel", name := "qTakes", desc := "(IJI)V" } : Jvm.MethodName)) ∈ lw_tbl := lw_at lw_m17 56 rfl
theorem q4084 : (Jvm.Cond.instanceMethod ({ cls := "GroupJournalModel", name := "qTakes", desc := "(IJI)V" } : Jvm.MethodName)) ∈ lw_all := lw_g (lw_at lw_m17 57 rfl) rfl
theorem q4085 : (Jvm.Cond.code ({ cls := "GroupJournalModel", name := "qTakes", desc := "(IJI)V" } : Jvm.MethodName) prog_26_method_150_code (6 : Nat) (Option.none : Option Jvm.ClassFile.FieldType)) ∈ lw_all := lw_g (lw_at lw_m17 58 rfl) rfl
theorem q4087 : (Jvm.Cond.instanceMethod ({ cls := "GroupJournalModel", name := "octet", desc := "(I)I" } : Jvm.MethodName)) ∈ lw_all := lw_g (lw_at lw_m17 60 rfl) rfl
theorem q4088 : (Jvm.Cond.selects "GroupJournalModel" ({ cls := "GroupJournalModel", name := "octet", desc := "(I)I" } : Jvm.MethodName) ({ cls := "GroupJournalModel", name := "octet", desc := "(I)I" } : Jvm.MethodName)) ∈ lw_all := lw_g (lw_at lw_m17 61 rfl) rfl
theorem q4089 : (Jvm.Cond.code ({ cls := "GroupJournalModel", name := "octet", desc := "(I)I" } : Jvm.MethodName) prog_26_method_156_code (2 : Nat) (Option.some Jvm.ClassFile.FieldType.int)) ∈ lw_all := lw_g (lw_at lw_m17 62 rfl) rfl
theorem q4091 : (Jvm.Cond.instanceMethod ({ cls := "GroupJournalModel", name := "status", desc := "(I)I" } : Jvm.MethodName)) ∈ lw_all := lw_g (lw_at lw_m17 64 rfl) rfl
theorem q4092 : (Jvm.Cond.selects "GroupJournalModel" ({ cls := "GroupJournalModel", name := "status", desc := "(I)I" } : Jvm.MethodName) ({ cls := "GroupJournalModel", name := "status", desc := "(I)I" } : Jvm.MethodName)) ∈ lw_all := lw_g (lw_at lw_m17 65 rfl) rfl
theorem q4093 : (Jvm.Cond.code ({ cls := "GroupJournalModel", name := "status", desc := "(I)I" } : Jvm.MethodName) prog_26_method_157_code (2 : Nat) (Option.some Jvm.ClassFile.FieldType.int)) ∈ lw_all := lw_g (lw_at lw_m17 66 rfl) rfl
theorem q4094 : (Jvm.Cond.constantLong "GroupJournalModel" (755 : Nat) (6 : Int64)) ∈ lw_all := lw_g (lw_at lw_m17 67 rfl) rfl
theorem q4096 : (Jvm.Cond.instanceMethod ({ cls := "GroupJournalModel", name := "image", desc := "()I" } : Jvm.MethodName)) ∈ lw_all := lw_g (lw_at lw_m17 69 rfl) rfl
theorem q4097 : (Jvm.Cond.selects "GroupJournalModel" ({ cls := "GroupJournalModel", name := "image", desc := "()I" } : Jvm.MethodName) ({ cls := "GroupJournalModel", name := "image", desc := "()I" } : Jvm.MethodName)) ∈ lw_all := lw_g (lw_at lw_m17 70 rfl) rfl
theorem q4098 : (Jvm.Cond.code ({ cls := "GroupJournalModel", name := "image", desc := "()I" } : Jvm.MethodName) prog_26_method_158_code (3 : Nat) (Option.some Jvm.ClassFile.FieldType.int)) ∈ lw_all := lw_g (lw_at lw_m17 71 rfl) rfl
theorem q4099 : (Jvm.Cond.constant "GroupJournalModel" (757 : Nat) (65536 : Int32)) ∈ lw_all := lw_g (lw_at lw_m17 72 rfl) rfl
theorem q4100 : (Jvm.Cond.methodLink "GroupJournalModel" (758 : Nat) ({ cls := "GroupJournalModel", name := "writesTwo", desc := "(I)V" } : Jvm.MethodName)) ∈ lw_all := lw_g (lw_at lw_m17 73 rfl) rfl
theorem q4101 : (Jvm.Cond.privateMethod ({ cls := "GroupJournalModel", name := "writesTwo", desc := "(I)V" } : Jvm.MethodName)) ∈ lw_tbl := lw_at lw_m17 74 rfl
theorem q4102 : (Jvm.Cond.instanceMethod ({ cls := "GroupJournalModel", name := "writesTwo", desc := "(I)V" } : Jvm.MethodName)) ∈ lw_all := lw_g (lw_at lw_m17 75 rfl) rfl
theorem q4103 : (Jvm.Cond.code ({ cls := "GroupJournalModel", name := "writesTwo", desc := "(I)V" } : Jvm.MethodName) prog_26_method_154_code (2 : Nat) (Option.none : Option Jvm.ClassFile.FieldType)) ∈ lw_all := lw_g (lw_at lw_m17 76 rfl) rfl
theorem q4104 : (Jvm.Cond.methodLink "GroupJournalModel" (752 : Nat) ({ cls := "GroupJournalModel", name := "writes", desc := "(I)V" } : Jvm.MethodName)) ∈ lw_all := lw_g (lw_at lw_m17 77 rfl) rfl
theorem q4105 : (Jvm.Cond.privateMethod ({ cls := "GroupJournalModel", name := "writes", desc := "(I)V" } : Jvm.MethodName)) ∈ lw_tbl := lw_at lw_m17 78 rfl
theorem q4106 : (Jvm.Cond.instanceMethod ({ cls := "GroupJournalModel", name := "writes", desc := "(I)V" } : Jvm.MethodName)) ∈ lw_all := lw_g (lw_at lw_m17 79 rfl) rfl
theorem q4107 : (Jvm.Cond.code ({ cls := "GroupJournalModel", name := "writes", desc := "(I)V" } : Jvm.MethodName) prog_26_method_153_code (2 : Nat) (Option.none : Option Jvm.ClassFile.FieldType)) ∈ lw_all := lw_g (lw_at lw_m17 80 rfl) rfl
theorem q4108 : (Jvm.Cond.methodLink "GroupJournalModel" (761 : Nat) ({ cls := "GroupJournalModel", name := "checked", desc := "([II)I" } : Jvm.MethodName)) ∈ lw_all := lw_g (lw_at lw_m17 81 rfl) rfl
theorem q4109 : (Jvm.Cond.static ({ cls := "GroupJournalModel", name := "checked", desc := "([II)I" } : Jvm.MethodName)) ∈ lw_all := lw_g (lw_at lw_m17 82 rfl) rfl
theorem q4110 : (Jvm.Cond.code ({ cls := "GroupJournalModel", name := "checked", desc := "([II)I" } : Jvm.MethodName) prog_26_method_152_code (4 : Nat) (Option.some Jvm.ClassFile.FieldType.int)) ∈ lw_all := lw_g (lw_at lw_m17 83 rfl) rfl
theorem q4112 : (Jvm.Cond.instanceMethod ({ cls := "GroupJournalModel", name := "on", desc := "()Z" } : Jvm.MethodName)) ∈ lw_all := lw_g (lw_at lw_m17 85 rfl) rfl
theorem q4113 : (Jvm.Cond.selects "GroupJournalModel" ({ cls := "GroupJournalModel", name := "on", desc := "()Z" } : Jvm.MethodName) ({ cls := "GroupJournalModel", name := "on", desc := "()Z" } : Jvm.MethodName)) ∈ lw_all := lw_g (lw_at lw_m17 86 rfl) rfl
theorem q4114 : (Jvm.Cond.code ({ cls := "GroupJournalModel", name := "on", desc := "()Z" } : Jvm.MethodName) prog_26_method_160_code (4 : Nat) (Option.some Jvm.ClassFile.FieldType.boolean)) ∈ lw_all := lw_g (lw_at lw_m17 87 rfl) rfl
theorem q4115 : (Jvm.Cond.methodLink "GroupJournalModel" (768 : Nat) ({ cls := "GroupJournalModel", name := "isImage", desc := "(I)Z" } : Jvm.MethodName)) ∈ lw_all := lw_g (lw_at lw_m17 88 rfl) rfl
theorem q4116 : (Jvm.Cond.privateMethod ({ cls := "GroupJournalModel", name := "isImage", desc := "(I)Z" } : Jvm.MethodName)) ∈ lw_tbl := lw_at lw_m17 89 rfl
theorem q4117 : (Jvm.Cond.instanceMethod ({ cls := "GroupJournalModel", name := "isImage", desc := "(I)Z" } : Jvm.MethodName)) ∈ lw_all := lw_g (lw_at lw_m17 90 rfl) rfl
theorem q4118 : (Jvm.Cond.code ({ cls := "GroupJournalModel", name := "isImage", desc := "(I)Z" } : Jvm.MethodName) prog_26_method_159_code (3 : Nat) (Option.some Jvm.ClassFile.FieldType.boolean)) ∈ lw_all := lw_g (lw_at lw_m17 91 rfl) rfl
theorem q4119 : (Jvm.Cond.methodLink "GroupJournalModel" (765 : Nat) ({ cls := "GroupJournalModel", name := "twoAt", desc := "(I)I" } : Jvm.MethodName)) ∈ lw_all := lw_g (lw_at lw_m17 92 rfl) rfl
theorem q4120 : (Jvm.Cond.privateMethod ({ cls := "GroupJournalModel", name := "twoAt", desc := "(I)I" } : Jvm.MethodName)) ∈ lw_tbl := lw_at lw_m17 93 rfl
theorem q4121 : (Jvm.Cond.instanceMethod ({ cls := "GroupJournalModel", name := "twoAt", desc := "(I)I" } : Jvm.MethodName)) ∈ lw_all := lw_g (lw_at lw_m17 94 rfl) rfl
theorem q4122 : (Jvm.Cond.code ({ cls := "GroupJournalModel", name := "twoAt", desc := "(I)I" } : Jvm.MethodName) prog_26_method_155_code (2 : Nat) (Option.some Jvm.ClassFile.FieldType.int)) ∈ lw_all := lw_g (lw_at lw_m17 95 rfl) rfl
theorem q4175 : (Jvm.Cond.castable "GroupJournalModel" "java/lang/Object") ∈ lw_tbl := lw_at lw_m17 148 rfl
theorem in_X11 : ∀ w ∈ wsX110, w ∈ lw_all := lw_in wsX110 [3257, 3259, 3261, 3263, 3265, 3267, 3269, 3271, 3273, 3275, 3277, 3279, 3281, 3283, 3285, 3287, 3289, 3291, 3293, 3295, 3297, 3299, 3301, 3303, 3305, 3307, 3309, 3311, 3313, 3315, 3317, 3319, 3321, 3323, 3325, 3327, 3329, 3331, 3333, 3335, 3337, 3339, 3341, 3343, 3345, 3347, 3349, 3351, 3353, 3355, 3357, 3359, 3361, 3363, 3365, 3367, 3369, 3371, 3373, 3375, 3377, 3379, 3381, 3383, 3385, 3387, 3389, 3391, 3393, 3395, 3397, 3399, 3401, 3403, 3405, 3407, 3409, 3411, 3413, 3415, 3417, 3419, 3421, 3423, 3425, 3427, 3429, 3431, 3433, 3435, 3437, 3439, 3441, 3443, 3445, 3447, 3449, 3451, 3453, 3455, 3457, 3459, 3461, 3463, 3465, 3467, 3469, 3471, 3473, 3475] (by decide +kernel) (by decide +kernel)

