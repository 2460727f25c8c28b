set_option maxRecDepth 100000
abbrev cX11_qHasSquare : ByteArray := prog_26_method_138_code
def yX11_qHasSquare : MethodName := ⟨RX11, "qHasSquare", "()Z"⟩
def dkwX11_qHasSquare_1 : List UInt8 := [132, 1, 1, 167, 255, 232, 3, 172]
abbrev dktX11_qHasSquare_1 : List UInt8 := dkwX11_qHasSquare_1 ++ []
def dkwX11_qHasSquare_0 : List UInt8 := [3, 60, 27, 42, 180, 1, 41, 162, 0, 22, 42, 180, 0, 219, 27, 46, 16, 25, 160, 0, 5, 4, 172]
abbrev dktX11_qHasSquare_0 : List UInt8 := dkwX11_qHasSquare_0 ++ dktX11_qHasSquare_1
theorem dksX11_qHasSquare_0 : cX11_qHasSquare.data.toList.drop 0 = dktX11_qHasSquare_0 := by decide +kernel
theorem dksX11_qHasSquare_1 : cX11_qHasSquare.data.toList.drop 23 = dktX11_qHasSquare_1 := dk_seg dksX11_qHasSquare_0 23 rfl rfl
theorem dX11_qHasSquare_0 : decode cX11_qHasSquare 0 = .ok (.iconst 0, 1) := dk_3 (dk_at dksX11_qHasSquare_0 0 rfl rfl)
theorem dX11_qHasSquare_1 : decode cX11_qHasSquare 1 = .ok (.istore_n 1, 1) := dk_60 (dk_at dksX11_qHasSquare_0 1 rfl rfl)
theorem dX11_qHasSquare_2 : decode cX11_qHasSquare 2 = .ok (.iload_n 1, 1) := dk_27 (dk_at dksX11_qHasSquare_0 2 rfl rfl)
theorem dX11_qHasSquare_3 : decode cX11_qHasSquare 3 = .ok (.aload_n 0, 1) := dk_42 (dk_at dksX11_qHasSquare_0 3 rfl rfl)
theorem dX11_qHasSquare_4 : decode cX11_qHasSquare 4 = .ok (.getfield 297, 3) := dk_180 1 41 (dk_at dksX11_qHasSquare_0 4 rfl rfl)
theorem dX11_qHasSquare_7 : decode cX11_qHasSquare 7 = .ok (.if_icmp .ge 22, 3) := dk_162 0 22 (dk_at dksX11_qHasSquare_0 7 rfl rfl)
theorem dX11_qHasSquare_10 : decode cX11_qHasSquare 10 = .ok (.aload_n 0, 1) := dk_42 (dk_at dksX11_qHasSquare_0 10 rfl rfl)
theorem dX11_qHasSquare_11 : decode cX11_qHasSquare 11 = .ok (.getfield 219, 3) := dk_180 0 219 (dk_at dksX11_qHasSquare_0 11 rfl rfl)
theorem dX11_qHasSquare_14 : decode cX11_qHasSquare 14 = .ok (.iload_n 1, 1) := dk_27 (dk_at dksX11_qHasSquare_0 14 rfl rfl)
theorem dX11_qHasSquare_15 : decode cX11_qHasSquare 15 = .ok (.iaload, 1) := dk_46 (dk_at dksX11_qHasSquare_0 15 rfl rfl)
theorem dX11_qHasSquare_16 : decode cX11_qHasSquare 16 = .ok (.bipush 25, 2) := dk_16 25 (dk_at dksX11_qHasSquare_0 16 rfl rfl)
theorem dX11_qHasSquare_18 : decode cX11_qHasSquare 18 = .ok (.if_icmp .ne 5, 3) := dk_160 0 5 (dk_at dksX11_qHasSquare_0 18 rfl rfl)
theorem dX11_qHasSquare_21 : decode cX11_qHasSquare 21 = .ok (.iconst 1, 1) := dk_4 (dk_at dksX11_qHasSquare_0 21 rfl rfl)
theorem dX11_qHasSquare_22 : decode cX11_qHasSquare 22 = .ok (.ireturn, 1) := dk_172 (dk_at dksX11_qHasSquare_0 22 rfl rfl)
theorem dX11_qHasSquare_23 : decode cX11_qHasSquare 23 = .ok (.iinc 1 1, 3) := dk_132 1 1 (dk_at dksX11_qHasSquare_1 0 rfl rfl)
theorem dX11_qHasSquare_26 : decode cX11_qHasSquare 26 = .ok (.goto (-24), 3) := dk_167 255 232 (dk_at dksX11_qHasSquare_1 3 rfl rfl)
theorem dX11_qHasSquare_29 : decode cX11_qHasSquare 29 = .ok (.iconst 0, 1) := dk_3 (dk_at dksX11_qHasSquare_1 6 rfl rfl)
theorem dX11_qHasSquare_30 : decode cX11_qHasSquare 30 = .ok (.ireturn, 1) := dk_172 (dk_at dksX11_qHasSquare_1 7 rfl rfl)
abbrev cX11_refuses : ByteArray := prog_26_method_109_code
def yX11_refuses : MethodName := ⟨RX11, "refuses", "(I)I"⟩
def dkwX11_refuses_0 : List UInt8 := [42, 180, 0, 17, 27, 92, 46, 4, 96, 79, 2, 172]
abbrev dktX11_refuses_0 : List UInt8 := dkwX11_refuses_0 ++ []
theorem dksX11_refuses_0 : cX11_refuses.data.toList.drop 0 = dktX11_refuses_0 := by decide +kernel
theorem dX11_refuses_0 : decode cX11_refuses 0 = .ok (.aload_n 0, 1) := dk_42 (dk_at dksX11_refuses_0 0 rfl rfl)
theorem dX11_refuses_1 : decode cX11_refuses 1 = .ok (.getfield 17, 3) := dk_180 0 17 (dk_at dksX11_refuses_0 1 rfl rfl)
theorem dX11_refuses_4 : decode cX11_refuses 4 = .ok (.iload_n 1, 1) := dk_27 (dk_at dksX11_refuses_0 4 rfl rfl)
theorem dX11_refuses_5 : decode cX11_refuses 5 = .ok (.dup2, 1) := dk_92 (dk_at dksX11_refuses_0 5 rfl rfl)
theorem dX11_refuses_6 : decode cX11_refuses 6 = .ok (.iaload, 1) := dk_46 (dk_at dksX11_refuses_0 6 rfl rfl)
theorem dX11_refuses_7 : decode cX11_refuses 7 = .ok (.iconst 1, 1) := dk_4 (dk_at dksX11_refuses_0 7 rfl rfl)
theorem dX11_refuses_8 : decode cX11_refuses 8 = .ok (.iadd, 1) := dk_96 (dk_at dksX11_refuses_0 8 rfl rfl)
theorem dX11_refuses_9 : decode cX11_refuses 9 = .ok (.iastore, 1) := dk_79 (dk_at dksX11_refuses_0 9 rfl rfl)
theorem dX11_refuses_10 : decode cX11_refuses 10 = .ok (.iconst (-1), 1) := dk_2 (dk_at dksX11_refuses_0 10 rfl rfl)
theorem dX11_refuses_11 : decode cX11_refuses 11 = .ok (.ireturn, 1) := dk_172 (dk_at dksX11_refuses_0 11 rfl rfl)
abbrev cX11_stands : ByteArray := prog_26_method_22_code
def yX11_stands : MethodName := ⟨RX11, "stands", "()V"⟩
def dkwX11_stands_12 : List UInt8 := [180, 0, 99, 6, 27, 104, 5, 96, 46, 182, 1, 100, 132, 1, 1, 167, 255, 194, 177]
abbrev dktX11_stands_12 : List UInt8 := dkwX11_stands_12 ++ []
def dkwX11_stands_11 : List UInt8 := [153, 0, 35, 42, 42, 180, 0, 99, 6, 27, 104, 46, 42, 180, 0, 99, 6, 27, 104, 4, 96, 46, 42]
abbrev dktX11_stands_11 : List UInt8 := dkwX11_stands_11 ++ dktX11_stands_12
def dkwX11_stands_10 : List UInt8 := [180, 0, 96, 6, 46, 162, 0, 58, 42, 42, 180, 0, 99, 6, 27, 104, 5, 96, 46, 182, 1, 97]
abbrev dktX11_stands_10 : List UInt8 := dkwX11_stands_10 ++ dktX11_stands_11
def dkwX11_stands_9 : List UInt8 := [167, 255, 237, 42, 3, 3, 182, 1, 88, 42, 3, 181, 1, 91, 42, 3, 181, 1, 94, 3, 60, 27, 42]
abbrev dktX11_stands_9 : List UInt8 := dkwX11_stands_9 ++ dktX11_stands_10
def dkwX11_stands_8 : List UInt8 := [167, 255, 236, 3, 60, 27, 7, 162, 0, 20, 42, 180, 0, 111, 17, 0, 192, 27, 96, 2, 79, 132, 1, 1]
abbrev dktX11_stands_8 : List UInt8 := dkwX11_stands_8 ++ dktX11_stands_9
def dkwX11_stands_7 : List UInt8 := [3, 60, 27, 16, 8, 162, 0, 20, 42, 180, 0, 111, 17, 0, 184, 27, 96, 2, 79, 132, 1, 1]
abbrev dktX11_stands_7 : List UInt8 := dkwX11_stands_7 ++ dktX11_stands_8
def dkwX11_stands_6 : List UInt8 := [17, 0, 144, 27, 96, 2, 79, 42, 180, 0, 111, 17, 0, 160, 27, 96, 2, 79, 132, 1, 1, 167, 255, 225]
abbrev dktX11_stands_6 : List UInt8 := dkwX11_stands_6 ++ dktX11_stands_7
def dkwX11_stands_5 : List UInt8 := [180, 0, 111, 27, 3, 79, 132, 1, 1, 167, 255, 239, 3, 60, 27, 16, 16, 162, 0, 31, 42, 180, 0, 111]
abbrev dktX11_stands_5 : List UInt8 := dkwX11_stands_5 ++ dktX11_stands_6
def dkwX11_stands_4 : List UInt8 := [180, 0, 108, 27, 46, 79, 132, 1, 1, 167, 255, 229, 3, 60, 27, 17, 9, 61, 162, 0, 16, 42]
abbrev dktX11_stands_4 : List UInt8 := dkwX11_stands_4 ++ dktX11_stands_5
def dkwX11_stands_3 : List UInt8 := [167, 255, 220, 3, 60, 27, 42, 180, 1, 56, 162, 0, 25, 42, 180, 0, 108, 17, 6, 64, 27, 96, 42]
abbrev dktX11_stands_3 : List UInt8 := dkwX11_stands_3 ++ dktX11_stands_4
def dkwX11_stands_2 : List UInt8 := [180, 0, 102, 27, 46, 79, 42, 180, 0, 105, 5, 27, 96, 42, 180, 0, 105, 27, 46, 79, 132, 1, 1]
abbrev dktX11_stands_2 : List UInt8 := dkwX11_stands_2 ++ dktX11_stands_3
def dkwX11_stands_1 : List UInt8 := [46, 79, 132, 1, 1, 167, 255, 234, 3, 60, 27, 5, 162, 0, 37, 42, 180, 0, 102, 5, 27, 96, 42]
abbrev dktX11_stands_1 : List UInt8 := dkwX11_stands_1 ++ dktX11_stands_2
def dkwX11_stands_0 : List UInt8 := [42, 4, 181, 1, 84, 3, 60, 27, 8, 162, 0, 23, 42, 180, 0, 96, 8, 27, 96, 42, 180, 0, 96, 27]
abbrev dktX11_stands_0 : List UInt8 := dkwX11_stands_0 ++ dktX11_stands_1
theorem dksX11_stands_0 : cX11_stands.data.toList.drop 0 = dktX11_stands_0 := by decide +kernel
theorem dksX11_stands_1 : cX11_stands.data.toList.drop 24 = dktX11_stands_1 := dk_seg dksX11_stands_0 24 rfl rfl
theorem dksX11_stands_2 : cX11_stands.data.toList.drop 47 = dktX11_stands_2 := dk_seg dksX11_stands_1 23 rfl rfl
theorem dksX11_stands_3 : cX11_stands.data.toList.drop 70 = dktX11_stands_3 := dk_seg dksX11_stands_2 23 rfl rfl
theorem dksX11_stands_4 : cX11_stands.data.toList.drop 93 = dktX11_stands_4 := dk_seg dksX11_stands_3 23 rfl rfl
theorem dksX11_stands_5 : cX11_stands.data.toList.drop 115 = dktX11_stands_5 := dk_seg dksX11_stands_4 22 rfl rfl
theorem dksX11_stands_6 : cX11_stands.data.toList.drop 139 = dktX11_stands_6 := dk_seg dksX11_stands_5 24 rfl rfl
theorem dksX11_stands_7 : cX11_stands.data.toList.drop 163 = dktX11_stands_7 := dk_seg dksX11_stands_6 24 rfl rfl
theorem dksX11_stands_8 : cX11_stands.data.toList.drop 185 = dktX11_stands_8 := dk_seg dksX11_stands_7 22 rfl rfl
theorem dksX11_stands_9 : cX11_stands.data.toList.drop 209 = dktX11_stands_9 := dk_seg dksX11_stands_8 24 rfl rfl
theorem dksX11_stands_10 : cX11_stands.data.toList.drop 232 = dktX11_stands_10 := dk_seg dksX11_stands_9 23 rfl rfl
theorem dksX11_stands_11 : cX11_stands.data.toList.drop 254 = dktX11_stands_11 := dk_seg dksX11_stands_10 22 rfl rfl
theorem dksX11_stands_12 : cX11_stands.data.toList.drop 277 = dktX11_stands_12 := dk_seg dksX11_stands_11 23 rfl rfl
theorem dX11_stands_0 : decode cX11_stands 0 = .ok (.aload_n 0, 1) := dk_42 (dk_at dksX11_stands_0 0 rfl rfl)
theorem dX11_stands_1 : decode cX11_stands 1 = .ok (.iconst 1, 1) := dk_4 (dk_at dksX11_stands_0 1 rfl rfl)
theorem dX11_stands_2 : decode cX11_stands 2 = .ok (.putfield 340, 3) := dk_181 1 84 (dk_at dksX11_stands_0 2 rfl rfl)
theorem dX11_stands_5 : decode cX11_stands 5 = .ok (.iconst 0, 1) := dk_3 (dk_at dksX11_stands_0 5 rfl rfl)
theorem dX11_stands_6 : decode cX11_stands 6 = .ok (.istore_n 1, 1) := dk_60 (dk_at dksX11_stands_0 6 rfl rfl)
theorem dX11_stands_7 : decode cX11_stands 7 = .ok (.iload_n 1, 1) := dk_27 (dk_at dksX11_stands_0 7 rfl rfl)
theorem dX11_stands_8 : decode cX11_stands 8 = .ok (.iconst 5, 1) := dk_8 (dk_at dksX11_stands_0 8 rfl rfl)
theorem dX11_stands_9 : decode cX11_stands 9 = .ok (.if_icmp .ge 23, 3) := dk_162 0 23 (dk_at dksX11_stands_0 9 rfl rfl)
theorem dX11_stands_12 : decode cX11_stands 12 = .ok (.aload_n 0, 1) := dk_42 (dk_at dksX11_stands_0 12 rfl rfl)
theorem dX11_stands_13 : decode cX11_stands 13 = .ok (.getfield 96, 3) := dk_180 0 96 (dk_at dksX11_stands_0 13 rfl rfl)
theorem dX11_stands_16 : decode cX11_stands 16 = .ok (.iconst 5, 1) := dk_8 (dk_at dksX11_stands_0 16 rfl rfl)
theorem dX11_stands_17 : decode cX11_stands 17 = .ok (.iload_n 1, 1) := dk_27 (dk_at dksX11_stands_0 17 rfl rfl)
theorem dX11_stands_18 : decode cX11_stands 18 = .ok (.iadd, 1) := dk_96 (dk_at dksX11_stands_0 18 rfl rfl)
theorem dX11_stands_19 : decode cX11_stands 19 = .ok (.aload_n 0, 1) := dk_42 (dk_at dksX11_stands_0 19 rfl rfl)
theorem dX11_stands_20 : decode cX11_stands 20 = .ok (.getfield 96, 3) := dk_180 0 96 (dk_at dksX11_stands_0 20 rfl rfl)
theorem dX11_stands_23 : decode cX11_stands 23 = .ok (.iload_n 1, 1) := dk_27 (dk_at dksX11_stands_0 23 rfl rfl)
theorem dX11_stands_24 : decode cX11_stands 24 = .ok (.iaload, 1) := dk_46 (dk_at dksX11_stands_1 0 rfl rfl)
theorem dX11_stands_25 : decode cX11_stands 25 = .ok (.iastore, 1) := dk_79 (dk_at dksX11_stands_1 1 rfl rfl)
theorem dX11_stands_26 : decode cX11_stands 26 = .ok (.iinc 1 1, 3) := dk_132 1 1 (dk_at dksX11_stands_1 2 rfl rfl)
theorem dX11_stands_29 : decode cX11_stands 29 = .ok (.goto (-22), 3) := dk_167 255 234 (dk_at dksX11_stands_1 5 rfl rfl)
theorem dX11_stands_32 : decode cX11_stands 32 = .ok (.iconst 0, 1) := dk_3 (dk_at dksX11_stands_1 8 rfl rfl)
theorem dX11_stands_33 : decode cX11_stands 33 = .ok (.istore_n 1, 1) := dk_60 (dk_at dksX11_stands_1 9 rfl rfl)
theorem dX11_stands_34 : decode cX11_stands 34 = .ok (.iload_n 1, 1) := dk_27 (dk_at dksX11_stands_1 10 rfl rfl)
theorem dX11_stands_35 : decode cX11_stands 35 = .ok (.iconst 2, 1) := dk_5 (dk_at dksX11_stands_1 11 rfl rfl)
theorem dX11_stands_36 : decode cX11_stands 36 = .ok (.if_icmp .ge 37, 3) := dk_162 0 37 (dk_at dksX11_stands_1 12 rfl rfl)
theorem dX11_stands_39 : decode cX11_stands 39 = .ok (.aload_n 0, 1) := dk_42 (dk_at dksX11_stands_1 15 rfl rfl)
theorem dX11_stands_40 : decode cX11_stands 40 = .ok (.getfield 102, 3) := dk_180 0 102 (dk_at dksX11_stands_1 16 rfl rfl)
theorem dX11_stands_43 : decode cX11_stands 43 = .ok (.iconst 2, 1) := dk_5 (dk_at dksX11_stands_1 19 rfl rfl)
theorem dX11_stands_44 : decode cX11_stands 44 = .ok (.iload_n 1, 1) := dk_27 (dk_at dksX11_stands_1 20 rfl rfl)
theorem dX11_stands_45 : decode cX11_stands 45 = .ok (.iadd, 1) := dk_96 (dk_at dksX11_stands_1 21 rfl rfl)
theorem dX11_stands_46 : decode cX11_stands 46 = .ok (.aload_n 0, 1) := dk_42 (dk_at dksX11_stands_1 22 rfl rfl)
theorem dX11_stands_47 : decode cX11_stands 47 = .ok (.getfield 102, 3) := dk_180 0 102 (dk_at dksX11_stands_2 0 rfl rfl)
theorem dX11_stands_50 : decode cX11_stands 50 = .ok (.iload_n 1, 1) := dk_27 (dk_at dksX11_stands_2 3 rfl rfl)
theorem dX11_stands_51 : decode cX11_stands 51 = .ok (.iaload, 1) := dk_46 (dk_at dksX11_stands_2 4 rfl rfl)
theorem dX11_stands_52 : decode cX11_stands 52 = .ok (.iastore, 1) := dk_79 (dk_at dksX11_stands_2 5 rfl rfl)
theorem dX11_stands_53 : decode cX11_stands 53 = .ok (.aload_n 0, 1) := dk_42 (dk_at dksX11_stands_2 6 rfl rfl)
theorem dX11_stands_54 : decode cX11_stands 54 = .ok (.getfield 105, 3) := dk_180 0 105 (dk_at dksX11_stands_2 7 rfl rfl)
theorem dX11_stands_57 : decode cX11_stands 57 = .ok (.iconst 2, 1) := dk_5 (dk_at dksX11_stands_2 10 rfl rfl)
theorem dX11_stands_58 : decode cX11_stands 58 = .ok (.iload_n 1, 1) := dk_27 (dk_at dksX11_stands_2 11 rfl rfl)
theorem dX11_stands_59 : decode cX11_stands 59 = .ok (.iadd, 1) := dk_96 (dk_at dksX11_stands_2 12 rfl rfl)
theorem dX11_stands_60 : decode cX11_stands 60 = .ok (.aload_n 0, 1) := dk_42 (dk_at dksX11_stands_2 13 rfl rfl)
theorem dX11_stands_61 : decode cX11_stands 61 = .ok (.getfield 105, 3) := dk_180 0 105 (dk_at dksX11_stands_2 14 rfl rfl)
theorem dX11_stands_64 : decode cX11_stands 64 = .ok (.iload_n 1, 1) := dk_27 (dk_at dksX11_stands_2 17 rfl rfl)
theorem dX11_stands_65 : decode cX11_stands 65 = .ok (.iaload, 1) := dk_46 (dk_at dksX11_stands_2 18 rfl rfl)
theorem dX11_stands_66 : decode cX11_stands 66 = .ok (.iastore, 1) := dk_79 (dk_at dksX11_stands_2 19 rfl rfl)
theorem dX11_stands_67 : decode cX11_stands 67 = .ok (.iinc 1 1, 3) := dk_132 1 1 (dk_at dksX11_stands_2 20 rfl rfl)
theorem dX11_stands_70 : decode cX11_stands 70 = .ok (.goto (-36), 3) := dk_167 255 220 (dk_at dksX11_stands_3 0 rfl rfl)
theorem dX11_stands_73 : decode cX11_stands 73 = .ok (.iconst 0, 1) := dk_3 (dk_at dksX11_stands_3 3 rfl rfl)
theorem dX11_stands_74 : decode cX11_stands 74 = .ok (.istore_n 1, 1) := dk_60 (dk_at dksX11_stands_3 4 rfl rfl)
theorem dX11_stands_75 : decode cX11_stands 75 = .ok (.iload_n 1, 1) := dk_27 (dk_at dksX11_stands_3 5 rfl rfl)
theorem dX11_stands_76 : decode cX11_stands 76 = .ok (.aload_n 0, 1) := dk_42 (dk_at dksX11_stands_3 6 rfl rfl)
theorem dX11_stands_77 : decode cX11_stands 77 = .ok (.getfield 312, 3) := dk_180 1 56 (dk_at dksX11_stands_3 7 rfl rfl)
theorem dX11_stands_80 : decode cX11_stands 80 = .ok (.if_icmp .ge 25, 3) := dk_162 0 25 (dk_at dksX11_stands_3 10 rfl rfl)
theorem dX11_stands_83 : decode cX11_stands 83 = .ok (.aload_n 0, 1) := dk_42 (dk_at dksX11_stands_3 13 rfl rfl)
theorem dX11_stands_84 : decode cX11_stands 84 = .ok (.getfield 108, 3) := dk_180 0 108 (dk_at dksX11_stands_3 14 rfl rfl)
theorem dX11_stands_87 : decode cX11_stands 87 = .ok (.sipush 1600, 3) := dk_17 6 64 (dk_at dksX11_stands_3 17 rfl rfl)
theorem dX11_stands_90 : decode cX11_stands 90 = .ok (.iload_n 1, 1) := dk_27 (dk_at dksX11_stands_3 20 rfl rfl)
theorem dX11_stands_91 : decode cX11_stands 91 = .ok (.iadd, 1) := dk_96 (dk_at dksX11_stands_3 21 rfl rfl)
theorem dX11_stands_92 : decode cX11_stands 92 = .ok (.aload_n 0, 1) := dk_42 (dk_at dksX11_stands_3 22 rfl rfl)
theorem dX11_stands_93 : decode cX11_stands 93 = .ok (.getfield 108, 3) := dk_180 0 108 (dk_at dksX11_stands_4 0 rfl rfl)
theorem dX11_stands_96 : decode cX11_stands 96 = .ok (.iload_n 1, 1) := dk_27 (dk_at dksX11_stands_4 3 rfl rfl)
theorem dX11_stands_97 : decode cX11_stands 97 = .ok (.iaload, 1) := dk_46 (dk_at dksX11_stands_4 4 rfl rfl)
theorem dX11_stands_98 : decode cX11_stands 98 = .ok (.iastore, 1) := dk_79 (dk_at dksX11_stands_4 5 rfl rfl)
theorem dX11_stands_99 : decode cX11_stands 99 = .ok (.iinc 1 1, 3) := dk_132 1 1 (dk_at dksX11_stands_4 6 rfl rfl)
theorem dX11_stands_102 : decode cX11_stands 102 = .ok (.goto (-27), 3) := dk_167 255 229 (dk_at dksX11_stands_4 9 rfl rfl)
theorem dX11_stands_105 : decode cX11_stands 105 = .ok (.iconst 0, 1) := dk_3 (dk_at dksX11_stands_4 12 rfl rfl)
theorem dX11_stands_106 : decode cX11_stands 106 = .ok (.istore_n 1, 1) := dk_60 (dk_at dksX11_stands_4 13 rfl rfl)
theorem dX11_stands_107 : decode cX11_stands 107 = .ok (.iload_n 1, 1) := dk_27 (dk_at dksX11_stands_4 14 rfl rfl)
theorem dX11_stands_108 : decode cX11_stands 108 = .ok (.sipush 2365, 3) := dk_17 9 61 (dk_at dksX11_stands_4 15 rfl rfl)
theorem dX11_stands_111 : decode cX11_stands 111 = .ok (.if_icmp .ge 16, 3) := dk_162 0 16 (dk_at dksX11_stands_4 18 rfl rfl)
theorem dX11_stands_114 : decode cX11_stands 114 = .ok (.aload_n 0, 1) := dk_42 (dk_at dksX11_stands_4 21 rfl rfl)
theorem dX11_stands_115 : decode cX11_stands 115 = .ok (.getfield 111, 3) := dk_180 0 111 (dk_at dksX11_stands_5 0 rfl rfl)
theorem dX11_stands_118 : decode cX11_stands 118 = .ok (.iload_n 1, 1) := dk_27 (dk_at dksX11_stands_5 3 rfl rfl)
theorem dX11_stands_119 : decode cX11_stands 119 = .ok (.iconst 0, 1) := dk_3 (dk_at dksX11_stands_5 4 rfl rfl)
theorem dX11_stands_120 : decode cX11_stands 120 = .ok (.iastore, 1) := dk_79 (dk_at dksX11_stands_5 5 rfl rfl)
theorem dX11_stands_121 : decode cX11_stands 121 = .ok (.iinc 1 1, 3) := dk_132 1 1 (dk_at dksX11_stands_5 6 rfl rfl)
theorem dX11_stands_124 : decode cX11_stands 124 = .ok (.goto (-17), 3) := dk_167 255 239 (dk_at dksX11_stands_5 9 rfl rfl)
theorem dX11_stands_127 : decode cX11_stands 127 = .ok (.iconst 0, 1) := dk_3 (dk_at dksX11_stands_5 12 rfl rfl)
theorem dX11_stands_128 : decode cX11_stands 128 = .ok (.istore_n 1, 1) := dk_60 (dk_at dksX11_stands_5 13 rfl rfl)
theorem dX11_stands_129 : decode cX11_stands 129 = .ok (.iload_n 1, 1) := dk_27 (dk_at dksX11_stands_5 14 rfl rfl)
theorem dX11_stands_130 : decode cX11_stands 130 = .ok (.bipush 16, 2) := dk_16 16 (dk_at dksX11_stands_5 15 rfl rfl)
theorem dX11_stands_132 : decode cX11_stands 132 = .ok (.if_icmp .ge 31, 3) := dk_162 0 31 (dk_at dksX11_stands_5 17 rfl rfl)
theorem dX11_stands_135 : decode cX11_stands 135 = .ok (.aload_n 0, 1) := dk_42 (dk_at dksX11_stands_5 20 rfl rfl)
theorem dX11_stands_136 : decode cX11_stands 136 = .ok (.getfield 111, 3) := dk_180 0 111 (dk_at dksX11_stands_5 21 rfl rfl)
theorem dX11_stands_139 : decode cX11_stands 139 = .ok (.sipush 144, 3) := dk_17 0 144 (dk_at dksX11_stands_6 0 rfl rfl)
theorem dX11_stands_142 : decode cX11_stands 142 = .ok (.iload_n 1, 1) := dk_27 (dk_at dksX11_stands_6 3 rfl rfl)
theorem dX11_stands_143 : decode cX11_stands 143 = .ok (.iadd, 1) := dk_96 (dk_at dksX11_stands_6 4 rfl rfl)
theorem dX11_stands_144 : decode cX11_stands 144 = .ok (.iconst (-1), 1) := dk_2 (dk_at dksX11_stands_6 5 rfl rfl)
theorem dX11_stands_145 : decode cX11_stands 145 = .ok (.iastore, 1) := dk_79 (dk_at dksX11_stands_6 6 rfl rfl)
theorem dX11_stands_146 : decode cX11_stands 146 = .ok (.aload_n 0, 1) := dk_42 (dk_at dksX11_stands_6 7 rfl rfl)
theorem dX11_stands_147 : decode cX11_stands 147 = .ok (.getfield 111, 3) := dk_180 0 111 (dk_at dksX11_stands_6 8 rfl rfl)
theorem dX11_stands_150 : decode cX11_stands 150 = .ok (.sipush 160, 3) := dk_17 0 160 (dk_at dksX11_stands_6 11 rfl rfl)
theorem dX11_stands_153 : decode cX11_stands 153 = .ok (.iload_n 1, 1) := dk_27 (dk_at dksX11_stands_6 14 rfl rfl)
theorem dX11_stands_154 : decode cX11_stands 154 = .ok (.iadd, 1) := dk_96 (dk_at dksX11_stands_6 15 rfl rfl)
theorem dX11_stands_155 : decode cX11_stands 155 = .ok (.iconst (-1), 1) := dk_2 (dk_at dksX11_stands_6 16 rfl rfl)
theorem dX11_stands_156 : decode cX11_stands 156 = .ok (.iastore, 1) := dk_79 (dk_at dksX11_stands_6 17 rfl rfl)
theorem dX11_stands_157 : decode cX11_stands 157 = .ok (.iinc 1 1, 3) := dk_132 1 1 (dk_at dksX11_stands_6 18 rfl rfl)
theorem dX11_stands_160 : decode cX11_stands 160 = .ok (.goto (-31), 3) := dk_167 255 225 (dk_at dksX11_stands_6 21 rfl rfl)
theorem dX11_stands_163 : decode cX11_stands 163 = .ok (.iconst 0, 1) := dk_3 (dk_at dksX11_stands_7 0 rfl rfl)
theorem dX11_stands_164 : decode cX11_stands 164 = .ok (.istore_n 1, 1) := dk_60 (dk_at dksX11_stands_7 1 rfl rfl)
theorem dX11_stands_165 : decode cX11_stands 165 = .ok (.iload_n 1, 1) := dk_27 (dk_at dksX11_stands_7 2 rfl rfl)
theorem dX11_stands_166 : decode cX11_stands 166 = .ok (.bipush 8, 2) := dk_16 8 (dk_at dksX11_stands_7 3 rfl rfl)
theorem dX11_stands_168 : decode cX11_stands 168 = .ok (.if_icmp .ge 20, 3) := dk_162 0 20 (dk_at dksX11_stands_7 5 rfl rfl)
theorem dX11_stands_171 : decode cX11_stands 171 = .ok (.aload_n 0, 1) := dk_42 (dk_at dksX11_stands_7 8 rfl rfl)
theorem dX11_stands_172 : decode cX11_stands 172 = .ok (.getfield 111, 3) := dk_180 0 111 (dk_at dksX11_stands_7 9 rfl rfl)
theorem dX11_stands_175 : decode cX11_stands 175 = .ok (.sipush 184, 3) := dk_17 0 184 (dk_at dksX11_stands_7 12 rfl rfl)
theorem dX11_stands_178 : decode cX11_stands 178 = .ok (.iload_n 1, 1) := dk_27 (dk_at dksX11_stands_7 15 rfl rfl)
theorem dX11_stands_179 : decode cX11_stands 179 = .ok (.iadd, 1) := dk_96 (dk_at dksX11_stands_7 16 rfl rfl)
theorem dX11_stands_180 : decode cX11_stands 180 = .ok (.iconst (-1), 1) := dk_2 (dk_at dksX11_stands_7 17 rfl rfl)
theorem dX11_stands_181 : decode cX11_stands 181 = .ok (.iastore, 1) := dk_79 (dk_at dksX11_stands_7 18 rfl rfl)
theorem dX11_stands_182 : decode cX11_stands 182 = .ok (.iinc 1 1, 3) := dk_132 1 1 (dk_at dksX11_stands_7 19 rfl rfl)
theorem dX11_stands_185 : decode cX11_stands 185 = .ok (.goto (-20), 3) := dk_167 255 236 (dk_at dksX11_stands_8 0 rfl rfl)
theorem dX11_stands_188 : decode cX11_stands 188 = .ok (.iconst 0, 1) := dk_3 (dk_at dksX11_stands_8 3 rfl rfl)
theorem dX11_stands_189 : decode cX11_stands 189 = .ok (.istore_n 1, 1) := dk_60 (dk_at dksX11_stands_8 4 rfl rfl)
theorem dX11_stands_190 : decode cX11_stands 190 = .ok (.iload_n 1, 1) := dk_27 (dk_at dksX11_stands_8 5 rfl rfl)
theorem dX11_stands_191 : decode cX11_stands 191 = .ok (.iconst 4, 1) := dk_7 (dk_at dksX11_stands_8 6 rfl rfl)
theorem dX11_stands_192 : decode cX11_stands 192 = .ok (.if_icmp .ge 20, 3) := dk_162 0 20 (dk_at dksX11_stands_8 7 rfl rfl)
theorem dX11_stands_195 : decode cX11_stands 195 = .ok (.aload_n 0, 1) := dk_42 (dk_at dksX11_stands_8 10 rfl rfl)
theorem dX11_stands_196 : decode cX11_stands 196 = .ok (.getfield 111, 3) := dk_180 0 111 (dk_at dksX11_stands_8 11 rfl rfl)
theorem dX11_stands_199 : decode cX11_stands 199 = .ok (.sipush 192, 3) := dk_17 0 192 (dk_at dksX11_stands_8 14 rfl rfl)
theorem dX11_stands_202 : decode cX11_stands 202 = .ok (.iload_n 1, 1) := dk_27 (dk_at dksX11_stands_8 17 rfl rfl)
theorem dX11_stands_203 : decode cX11_stands 203 = .ok (.iadd, 1) := dk_96 (dk_at dksX11_stands_8 18 rfl rfl)
theorem dX11_stands_204 : decode cX11_stands 204 = .ok (.iconst (-1), 1) := dk_2 (dk_at dksX11_stands_8 19 rfl rfl)
theorem dX11_stands_205 : decode cX11_stands 205 = .ok (.iastore, 1) := dk_79 (dk_at dksX11_stands_8 20 rfl rfl)
theorem dX11_stands_206 : decode cX11_stands 206 = .ok (.iinc 1 1, 3) := dk_132 1 1 (dk_at dksX11_stands_8 21 rfl rfl)
theorem dX11_stands_209 : decode cX11_stands 209 = .ok (.goto (-19), 3) := dk_167 255 237 (dk_at dksX11_stands_9 0 rfl rfl)
theorem dX11_stands_212 : decode cX11_stands 212 = .ok (.aload_n 0, 1) := dk_42 (dk_at dksX11_stands_9 3 rfl rfl)
theorem dX11_stands_213 : decode cX11_stands 213 = .ok (.iconst 0, 1) := dk_3 (dk_at dksX11_stands_9 4 rfl rfl)
theorem dX11_stands_214 : decode cX11_stands 214 = .ok (.iconst 0, 1) := dk_3 (dk_at dksX11_stands_9 5 rfl rfl)
theorem dX11_stands_215 : decode cX11_stands 215 = .ok (.invokevirtual 344, 3) := dk_182 1 88 (dk_at dksX11_stands_9 6 rfl rfl)
theorem dX11_stands_218 : decode cX11_stands 218 = .ok (.aload_n 0, 1) := dk_42 (dk_at dksX11_stands_9 9 rfl rfl)
theorem dX11_stands_219 : decode cX11_stands 219 = .ok (.iconst 0, 1) := dk_3 (dk_at dksX11_stands_9 10 rfl rfl)
theorem dX11_stands_220 : decode cX11_stands 220 = .ok (.putfield 347, 3) := dk_181 1 91 (dk_at dksX11_stands_9 11 rfl rfl)
theorem dX11_stands_223 : decode cX11_stands 223 = .ok (.aload_n 0, 1) := dk_42 (dk_at dksX11_stands_9 14 rfl rfl)
theorem dX11_stands_224 : decode cX11_stands 224 = .ok (.iconst 0, 1) := dk_3 (dk_at dksX11_stands_9 15 rfl rfl)
theorem dX11_stands_225 : decode cX11_stands 225 = .ok (.putfield 350, 3) := dk_181 1 94 (dk_at dksX11_stands_9 16 rfl rfl)
theorem dX11_stands_228 : decode cX11_stands 228 = .ok (.iconst 0, 1) := dk_3 (dk_at dksX11_stands_9 19 rfl rfl)
theorem dX11_stands_229 : decode cX11_stands 229 = .ok (.istore_n 1, 1) := dk_60 (dk_at dksX11_stands_9 20 rfl rfl)
theorem dX11_stands_230 : decode cX11_stands 230 = .ok (.iload_n 1, 1) := dk_27 (dk_at dksX11_stands_9 21 rfl rfl)
theorem dX11_stands_231 : decode cX11_stands 231 = .ok (.aload_n 0, 1) := dk_42 (dk_at dksX11_stands_9 22 rfl rfl)
theorem dX11_stands_232 : decode cX11_stands 232 = .ok (.getfield 96, 3) := dk_180 0 96 (dk_at dksX11_stands_10 0 rfl rfl)
theorem dX11_stands_235 : decode cX11_stands 235 = .ok (.iconst 3, 1) := dk_6 (dk_at dksX11_stands_10 3 rfl rfl)
theorem dX11_stands_236 : decode cX11_stands 236 = .ok (.iaload, 1) := dk_46 (dk_at dksX11_stands_10 4 rfl rfl)
theorem dX11_stands_237 : decode cX11_stands 237 = .ok (.if_icmp .ge 58, 3) := dk_162 0 58 (dk_at dksX11_stands_10 5 rfl rfl)
theorem dX11_stands_240 : decode cX11_stands 240 = .ok (.aload_n 0, 1) := dk_42 (dk_at dksX11_stands_10 8 rfl rfl)
theorem dX11_stands_241 : decode cX11_stands 241 = .ok (.aload_n 0, 1) := dk_42 (dk_at dksX11_stands_10 9 rfl rfl)
theorem dX11_stands_242 : decode cX11_stands 242 = .ok (.getfield 99, 3) := dk_180 0 99 (dk_at dksX11_stands_10 10 rfl rfl)
theorem dX11_stands_245 : decode cX11_stands 245 = .ok (.iconst 3, 1) := dk_6 (dk_at dksX11_stands_10 13 rfl rfl)
theorem dX11_stands_246 : decode cX11_stands 246 = .ok (.iload_n 1, 1) := dk_27 (dk_at dksX11_stands_10 14 rfl rfl)
theorem dX11_stands_247 : decode cX11_stands 247 = .ok (.imul, 1) := dk_104 (dk_at dksX11_stands_10 15 rfl rfl)
theorem dX11_stands_248 : decode cX11_stands 248 = .ok (.iconst 2, 1) := dk_5 (dk_at dksX11_stands_10 16 rfl rfl)
theorem dX11_stands_249 : decode cX11_stands 249 = .ok (.iadd, 1) := dk_96 (dk_at dksX11_stands_10 17 rfl rfl)
theorem dX11_stands_250 : decode cX11_stands 250 = .ok (.iaload, 1) := dk_46 (dk_at dksX11_stands_10 18 rfl rfl)
theorem dX11_stands_251 : decode cX11_stands 251 = .ok (.invokevirtual 353, 3) := dk_182 1 97 (dk_at dksX11_stands_10 19 rfl rfl)
theorem dX11_stands_254 : decode cX11_stands 254 = .ok (.ifCond .eq 35, 3) := dk_153 0 35 (dk_at dksX11_stands_11 0 rfl rfl)
theorem dX11_stands_257 : decode cX11_stands 257 = .ok (.aload_n 0, 1) := dk_42 (dk_at dksX11_stands_11 3 rfl rfl)
theorem dX11_stands_258 : decode cX11_stands 258 = .ok (.aload_n 0, 1) := dk_42 (dk_at dksX11_stands_11 4 rfl rfl)
theorem dX11_stands_259 : decode cX11_stands 259 = .ok (.getfield 99, 3) := dk_180 0 99 (dk_at dksX11_stands_11 5 rfl rfl)
theorem dX11_stands_262 : decode cX11_stands 262 = .ok (.iconst 3, 1) := dk_6 (dk_at dksX11_stands_11 8 rfl rfl)
theorem dX11_stands_263 : decode cX11_stands 263 = .ok (.iload_n 1, 1) := dk_27 (dk_at dksX11_stands_11 9 rfl rfl)
theorem dX11_stands_264 : decode cX11_stands 264 = .ok (.imul, 1) := dk_104 (dk_at dksX11_stands_11 10 rfl rfl)
theorem dX11_stands_265 : decode cX11_stands 265 = .ok (.iaload, 1) := dk_46 (dk_at dksX11_stands_11 11 rfl rfl)
theorem dX11_stands_266 : decode cX11_stands 266 = .ok (.aload_n 0, 1) := dk_42 (dk_at dksX11_stands_11 12 rfl rfl)
theorem dX11_stands_267 : decode cX11_stands 267 = .ok (.getfield 99, 3) := dk_180 0 99 (dk_at dksX11_stands_11 13 rfl rfl)
theorem dX11_stands_270 : decode cX11_stands 270 = .ok (.iconst 3, 1) := dk_6 (dk_at dksX11_stands_11 16 rfl rfl)
theorem dX11_stands_271 : decode cX11_stands 271 = .ok (.iload_n 1, 1) := dk_27 (dk_at dksX11_stands_11 17 rfl rfl)
theorem dX11_stands_272 : decode cX11_stands 272 = .ok (.imul, 1) := dk_104 (dk_at dksX11_stands_11 18 rfl rfl)
theorem dX11_stands_273 : decode cX11_stands 273 = .ok (.iconst 1, 1) := dk_4 (dk_at dksX11_stands_11 19 rfl rfl)
theorem dX11_stands_274 : decode cX11_stands 274 = .ok (.iadd, 1) := dk_96 (dk_at dksX11_stands_11 20 rfl rfl)
theorem dX11_stands_275 : decode cX11_stands 275 = .ok (.iaload, 1) := dk_46 (dk_at dksX11_stands_11 21 rfl rfl)
theorem dX11_stands_276 : decode cX11_stands 276 = .ok (.aload_n 0, 1) := dk_42 (dk_at dksX11_stands_11 22 rfl rfl)
theorem dX11_stands_277 : decode cX11_stands 277 = .ok (.getfield 99, 3) := dk_180 0 99 (dk_at dksX11_stands_12 0 rfl rfl)
theorem dX11_stands_280 : decode cX11_stands 280 = .ok (.iconst 3, 1) := dk_6 (dk_at dksX11_stands_12 3 rfl rfl)
theorem dX11_stands_281 : decode cX11_stands 281 = .ok (.iload_n 1, 1) := dk_27 (dk_at dksX11_stands_12 4 rfl rfl)
theorem dX11_stands_282 : decode cX11_stands 282 = .ok (.imul, 1) := dk_104 (dk_at dksX11_stands_12 5 rfl rfl)
theorem dX11_stands_283 : decode cX11_stands 283 = .ok (.iconst 2, 1) := dk_5 (dk_at dksX11_stands_12 6 rfl rfl)
theorem dX11_stands_284 : decode cX11_stands 284 = .ok (.iadd, 1) := dk_96 (dk_at dksX11_stands_12 7 rfl rfl)
theorem dX11_stands_285 : decode cX11_stands 285 = .ok (.iaload, 1) := dk_46 (dk_at dksX11_stands_12 8 rfl rfl)
theorem dX11_stands_286 : decode cX11_stands 286 = .ok (.invokevirtual 356, 3) := dk_182 1 100 (dk_at dksX11_stands_12 9 rfl rfl)
theorem dX11_stands_289 : decode cX11_stands 289 = .ok (.iinc 1 1, 3) := dk_132 1 1 (dk_at dksX11_stands_12 12 rfl rfl)
theorem dX11_stands_292 : decode cX11_stands 292 = .ok (.goto (-62), 3) := dk_167 255 194 (dk_at dksX11_stands_12 15 rfl rfl)
theorem dX11_stands_295 : decode cX11_stands 295 = .ok (.return_, 1) := dk_177 (dk_at dksX11_stands_12 18 rfl rfl)
abbrev cX11_opensOnDisk : ByteArray := prog_26_method_40_code
def yX11_opensOnDisk : MethodName := ⟨RX11, "opensOnDisk", "(II)V"⟩
def dkwX11_opensOnDisk_2 : List UInt8 := [16, 6, 8, 79, 177]
abbrev dktX11_opensOnDisk_2 : List UInt8 := dkwX11_opensOnDisk_2 ++ []
def dkwX11_opensOnDisk_1 : List UInt8 := [180, 0, 111, 16, 7, 46, 28, 29, 182, 1, 134, 182, 1, 137, 132, 3, 1, 167, 255, 224, 42, 180, 0, 111]
abbrev dktX11_opensOnDisk_1 : List UInt8 := dkwX11_opensOnDisk_1 ++ dktX11_opensOnDisk_2
def dkwX11_opensOnDisk_0 : List UInt8 := [42, 27, 182, 1, 131, 3, 62, 29, 8, 162, 0, 33, 42, 17, 0, 128, 27, 104, 29, 96, 42, 42]
abbrev dktX11_opensOnDisk_0 : List UInt8 := dkwX11_opensOnDisk_0 ++ dktX11_opensOnDisk_1
theorem dksX11_opensOnDisk_0 : cX11_opensOnDisk.data.toList.drop 0 = dktX11_opensOnDisk_0 := by decide +kernel
theorem dksX11_opensOnDisk_1 : cX11_opensOnDisk.data.toList.drop 22 = dktX11_opensOnDisk_1 := dk_seg dksX11_opensOnDisk_0 22 rfl rfl
theorem dksX11_opensOnDisk_2 : cX11_opensOnDisk.data.toList.drop 46 = dktX11_opensOnDisk_2 := dk_seg dksX11_opensOnDisk_1 24 rfl rfl
theorem dX11_opensOnDisk_0 : decode cX11_opensOnDisk 0 = .ok (.aload_n 0, 1) := dk_42 (dk_at dksX11_opensOnDisk_0 0 rfl rfl)
theorem dX11_opensOnDisk_1 : decode cX11_opensOnDisk 1 = .ok (.iload_n 1, 1) := dk_27 (dk_at dksX11_opensOnDisk_0 1 rfl rfl)
theorem dX11_opensOnDisk_2 : decode cX11_opensOnDisk 2 = .ok (.invokevirtual 387, 3) := dk_182 1 131 (dk_at dksX11_opensOnDisk_0 2 rfl rfl)
theorem dX11_opensOnDisk_5 : decode cX11_opensOnDisk 5 = .ok (.iconst 0, 1) := dk_3 (dk_at dksX11_opensOnDisk_0 5 rfl rfl)
theorem dX11_opensOnDisk_6 : decode cX11_opensOnDisk 6 = .ok (.istore_n 3, 1) := dk_62 (dk_at dksX11_opensOnDisk_0 6 rfl rfl)
theorem dX11_opensOnDisk_7 : decode cX11_opensOnDisk 7 = .ok (.iload_n 3, 1) := dk_29 (dk_at dksX11_opensOnDisk_0 7 rfl rfl)
theorem dX11_opensOnDisk_8 : decode cX11_opensOnDisk 8 = .ok (.iconst 5, 1) := dk_8 (dk_at dksX11_opensOnDisk_0 8 rfl rfl)
theorem dX11_opensOnDisk_9 : decode cX11_opensOnDisk 9 = .ok (.if_icmp .ge 33, 3) := dk_162 0 33 (dk_at dksX11_opensOnDisk_0 9 rfl rfl)
theorem dX11_opensOnDisk_12 : decode cX11_opensOnDisk 12 = .ok (.aload_n 0, 1) := dk_42 (dk_at dksX11_opensOnDisk_0 12 rfl rfl)
theorem dX11_opensOnDisk_13 : decode cX11_opensOnDisk 13 = .ok (.sipush 128, 3) := dk_17 0 128 (dk_at dksX11_opensOnDisk_0 13 rfl rfl)
theorem dX11_opensOnDisk_16 : decode cX11_opensOnDisk 16 = .ok (.iload_n 1, 1) := dk_27 (dk_at dksX11_opensOnDisk_0 16 rfl rfl)
theorem dX11_opensOnDisk_17 : decode cX11_opensOnDisk 17 = .ok (.imul, 1) := dk_104 (dk_at dksX11_opensOnDisk_0 17 rfl rfl)
theorem dX11_opensOnDisk_18 : decode cX11_opensOnDisk 18 = .ok (.iload_n 3, 1) := dk_29 (dk_at dksX11_opensOnDisk_0 18 rfl rfl)
theorem dX11_opensOnDisk_19 : decode cX11_opensOnDisk 19 = .ok (.iadd, 1) := dk_96 (dk_at dksX11_opensOnDisk_0 19 rfl rfl)
theorem dX11_opensOnDisk_20 : decode cX11_opensOnDisk 20 = .ok (.aload_n 0, 1) := dk_42 (dk_at dksX11_opensOnDisk_0 20 rfl rfl)
theorem dX11_opensOnDisk_21 : decode cX11_opensOnDisk 21 = .ok (.aload_n 0, 1) := dk_42 (dk_at dksX11_opensOnDisk_0 21 rfl rfl)
theorem dX11_opensOnDisk_22 : decode cX11_opensOnDisk 22 = .ok (.getfield 111, 3) := dk_180 0 111 (dk_at dksX11_opensOnDisk_1 0 rfl rfl)
theorem dX11_opensOnDisk_25 : decode cX11_opensOnDisk 25 = .ok (.bipush 7, 2) := dk_16 7 (dk_at dksX11_opensOnDisk_1 3 rfl rfl)
theorem dX11_opensOnDisk_27 : decode cX11_opensOnDisk 27 = .ok (.iaload, 1) := dk_46 (dk_at dksX11_opensOnDisk_1 5 rfl rfl)
theorem dX11_opensOnDisk_28 : decode cX11_opensOnDisk 28 = .ok (.iload_n 2, 1) := dk_28 (dk_at dksX11_opensOnDisk_1 6 rfl rfl)
theorem dX11_opensOnDisk_29 : decode cX11_opensOnDisk 29 = .ok (.iload_n 3, 1) := dk_29 (dk_at dksX11_opensOnDisk_1 7 rfl rfl)
theorem dX11_opensOnDisk_30 : decode cX11_opensOnDisk 30 = .ok (.invokevirtual 390, 3) := dk_182 1 134 (dk_at dksX11_opensOnDisk_1 8 rfl rfl)
theorem dX11_opensOnDisk_33 : decode cX11_opensOnDisk 33 = .ok (.invokevirtual 393, 3) := dk_182 1 137 (dk_at dksX11_opensOnDisk_1 11 rfl rfl)
theorem dX11_opensOnDisk_36 : decode cX11_opensOnDisk 36 = .ok (.iinc 3 1, 3) := dk_132 3 1 (dk_at dksX11_opensOnDisk_1 14 rfl rfl)
theorem dX11_opensOnDisk_39 : decode cX11_opensOnDisk 39 = .ok (.goto (-32), 3) := dk_167 255 224 (dk_at dksX11_opensOnDisk_1 17 rfl rfl)
theorem dX11_opensOnDisk_42 : decode cX11_opensOnDisk 42 = .ok (.aload_n 0, 1) := dk_42 (dk_at dksX11_opensOnDisk_1 20 rfl rfl)
theorem dX11_opensOnDisk_43 : decode cX11_opensOnDisk 43 = .ok (.getfield 111, 3) := dk_180 0 111 (dk_at dksX11_opensOnDisk_1 21 rfl rfl)
theorem dX11_opensOnDisk_46 : decode cX11_opensOnDisk 46 = .ok (.bipush 6, 2) := dk_16 6 (dk_at dksX11_opensOnDisk_2 0 rfl rfl)
theorem dX11_opensOnDisk_48 : decode cX11_opensOnDisk 48 = .ok (.iconst 5, 1) := dk_8 (dk_at dksX11_opensOnDisk_2 2 rfl rfl)
theorem dX11_opensOnDisk_49 : decode cX11_opensOnDisk 49 = .ok (.iastore, 1) := dk_79 (dk_at dksX11_opensOnDisk_2 3 rfl rfl)
theorem dX11_opensOnDisk_50 : decode cX11_opensOnDisk 50 = .ok (.return_, 1) := dk_177 (dk_at dksX11_opensOnDisk_2 4 rfl rfl)
abbrev cX11_opens : ByteArray := prog_26_method_39_code
def yX11_opens : MethodName := ⟨RX11, "opens", "(I)V"⟩
def dkwX11_opens_2 : List UInt8 := [96, 2, 79, 177]
abbrev dktX11_opens_2 : List UInt8 := dkwX11_opens_2 ++ []
def dkwX11_opens_1 : List UInt8 := [3, 79, 42, 180, 0, 111, 16, 7, 42, 180, 0, 111, 16, 8, 46, 79, 42, 180, 0, 111, 17, 0, 192, 27]
abbrev dktX11_opens_1 : List UInt8 := dkwX11_opens_1 ++ dktX11_opens_2
def dkwX11_opens_0 : List UInt8 := [42, 180, 0, 111, 16, 8, 92, 46, 4, 96, 79, 42, 180, 0, 111, 8, 27, 79, 42, 180, 0, 111, 16, 6]
abbrev dktX11_opens_0 : List UInt8 := dkwX11_opens_0 ++ dktX11_opens_1
theorem dksX11_opens_0 : cX11_opens.data.toList.drop 0 = dktX11_opens_0 := by decide +kernel
theorem dksX11_opens_1 : cX11_opens.data.toList.drop 24 = dktX11_opens_1 := dk_seg dksX11_opens_0 24 rfl rfl
theorem dksX11_opens_2 : cX11_opens.data.toList.drop 48 = dktX11_opens_2 := dk_seg dksX11_opens_1 24 rfl rfl
theorem dX11_opens_0 : decode cX11_opens 0 = .ok (.aload_n 0, 1) := dk_42 (dk_at dksX11_opens_0 0 rfl rfl)
theorem dX11_opens_1 : decode cX11_opens 1 = .ok (.getfield 111, 3) := dk_180 0 111 (dk_at dksX11_opens_0 1 rfl rfl)
theorem dX11_opens_4 : decode cX11_opens 4 = .ok (.bipush 8, 2) := dk_16 8 (dk_at dksX11_opens_0 4 rfl rfl)
theorem dX11_opens_6 : decode cX11_opens 6 = .ok (.dup2, 1) := dk_92 (dk_at dksX11_opens_0 6 rfl rfl)
theorem dX11_opens_7 : decode cX11_opens 7 = .ok (.iaload, 1) := dk_46 (dk_at dksX11_opens_0 7 rfl rfl)
theorem dX11_opens_8 : decode cX11_opens 8 = .ok (.iconst 1, 1) := dk_4 (dk_at dksX11_opens_0 8 rfl rfl)
theorem dX11_opens_9 : decode cX11_opens 9 = .ok (.iadd, 1) := dk_96 (dk_at dksX11_opens_0 9 rfl rfl)
theorem dX11_opens_10 : decode cX11_opens 10 = .ok (.iastore, 1) := dk_79 (dk_at dksX11_opens_0 10 rfl rfl)
theorem dX11_opens_11 : decode cX11_opens 11 = .ok (.aload_n 0, 1) := dk_42 (dk_at dksX11_opens_0 11 rfl rfl)
theorem dX11_opens_12 : decode cX11_opens 12 = .ok (.getfield 111, 3) := dk_180 0 111 (dk_at dksX11_opens_0 12 rfl rfl)
theorem dX11_opens_15 : decode cX11_opens 15 = .ok (.iconst 5, 1) := dk_8 (dk_at dksX11_opens_0 15 rfl rfl)
theorem dX11_opens_16 : decode cX11_opens 16 = .ok (.iload_n 1, 1) := dk_27 (dk_at dksX11_opens_0 16 rfl rfl)
theorem dX11_opens_17 : decode cX11_opens 17 = .ok (.iastore, 1) := dk_79 (dk_at dksX11_opens_0 17 rfl rfl)
theorem dX11_opens_18 : decode cX11_opens 18 = .ok (.aload_n 0, 1) := dk_42 (dk_at dksX11_opens_0 18 rfl rfl)
theorem dX11_opens_19 : decode cX11_opens 19 = .ok (.getfield 111, 3) := dk_180 0 111 (dk_at dksX11_opens_0 19 rfl rfl)
theorem dX11_opens_22 : decode cX11_opens 22 = .ok (.bipush 6, 2) := dk_16 6 (dk_at dksX11_opens_0 22 rfl rfl)
theorem dX11_opens_24 : decode cX11_opens 24 = .ok (.iconst 0, 1) := dk_3 (dk_at dksX11_opens_1 0 rfl rfl)
theorem dX11_opens_25 : decode cX11_opens 25 = .ok (.iastore, 1) := dk_79 (dk_at dksX11_opens_1 1 rfl rfl)
theorem dX11_opens_26 : decode cX11_opens 26 = .ok (.aload_n 0, 1) := dk_42 (dk_at dksX11_opens_1 2 rfl rfl)
theorem dX11_opens_27 : decode cX11_opens 27 = .ok (.getfield 111, 3) := dk_180 0 111 (dk_at dksX11_opens_1 3 rfl rfl)
theorem dX11_opens_30 : decode cX11_opens 30 = .ok (.bipush 7, 2) := dk_16 7 (dk_at dksX11_opens_1 6 rfl rfl)
theorem dX11_opens_32 : decode cX11_opens 32 = .ok (.aload_n 0, 1) := dk_42 (dk_at dksX11_opens_1 8 rfl rfl)
theorem dX11_opens_33 : decode cX11_opens 33 = .ok (.getfield 111, 3) := dk_180 0 111 (dk_at dksX11_opens_1 9 rfl rfl)
theorem dX11_opens_36 : decode cX11_opens 36 = .ok (.bipush 8, 2) := dk_16 8 (dk_at dksX11_opens_1 12 rfl rfl)
theorem dX11_opens_38 : decode cX11_opens 38 = .ok (.iaload, 1) := dk_46 (dk_at dksX11_opens_1 14 rfl rfl)
theorem dX11_opens_39 : decode cX11_opens 39 = .ok (.iastore, 1) := dk_79 (dk_at dksX11_opens_1 15 rfl rfl)
theorem dX11_opens_40 : decode cX11_opens 40 = .ok (.aload_n 0, 1) := dk_42 (dk_at dksX11_opens_1 16 rfl rfl)
theorem dX11_opens_41 : decode cX11_opens 41 = .ok (.getfield 111, 3) := dk_180 0 111 (dk_at dksX11_opens_1 17 rfl rfl)
theorem dX11_opens_44 : decode cX11_opens 44 = .ok (.sipush 192, 3) := dk_17 0 192 (dk_at dksX11_opens_1 20 rfl rfl)
theorem dX11_opens_47 : decode cX11_opens 47 = .ok (.iload_n 1, 1) := dk_27 (dk_at dksX11_opens_1 23 rfl rfl)
theorem dX11_opens_48 : decode cX11_opens 48 = .ok (.iadd, 1) := dk_96 (dk_at dksX11_opens_2 0 rfl rfl)
theorem dX11_opens_49 : decode cX11_opens 49 = .ok (.iconst (-1), 1) := dk_2 (dk_at dksX11_opens_2 1 rfl rfl)
theorem dX11_opens_50 : decode cX11_opens 50 = .ok (.iastore, 1) := dk_79 (dk_at dksX11_opens_2 2 rfl rfl)
theorem dX11_opens_51 : decode cX11_opens 51 = .ok (.return_, 1) := dk_177 (dk_at dksX11_opens_2 3 rfl rfl)
abbrev cX11_headByte : ByteArray := prog_26_method_37_code
def yX11_headByte : MethodName := ⟨RX11, "headByte", "(III)I"⟩
def dkwX11_headByte_2 : List UInt8 := [184, 1, 124, 172]
abbrev dktX11_headByte_2 : List UInt8 := dkwX11_headByte_2 ++ []
def dkwX11_headByte_1 : List UInt8 := [184, 1, 128, 54, 4, 132, 5, 1, 167, 255, 233, 29, 7, 160, 0, 8, 21, 4, 167, 0, 9, 27, 28, 29]
abbrev dktX11_headByte_1 : List UInt8 := dkwX11_headByte_1 ++ dktX11_headByte_2
def dkwX11_headByte_0 : List UInt8 := [16, 7, 54, 4, 3, 54, 5, 21, 5, 29, 162, 0, 23, 21, 4, 27, 28, 21, 5, 184, 1, 124]
abbrev dktX11_headByte_0 : List UInt8 := dkwX11_headByte_0 ++ dktX11_headByte_1
theorem dksX11_headByte_0 : cX11_headByte.data.toList.drop 0 = dktX11_headByte_0 := by decide +kernel
theorem dksX11_headByte_1 : cX11_headByte.data.toList.drop 22 = dktX11_headByte_1 := dk_seg dksX11_headByte_0 22 rfl rfl
theorem dksX11_headByte_2 : cX11_headByte.data.toList.drop 46 = dktX11_headByte_2 := dk_seg dksX11_headByte_1 24 rfl rfl
theorem dX11_headByte_0 : decode cX11_headByte 0 = .ok (.bipush 7, 2) := dk_16 7 (dk_at dksX11_headByte_0 0 rfl rfl)
theorem dX11_headByte_2 : decode cX11_headByte 2 = .ok (.istore 4, 2) := dk_54 4 (dk_at dksX11_headByte_0 2 rfl rfl)
theorem dX11_headByte_4 : decode cX11_headByte 4 = .ok (.iconst 0, 1) := dk_3 (dk_at dksX11_headByte_0 4 rfl rfl)
theorem dX11_headByte_5 : decode cX11_headByte 5 = .ok (.istore 5, 2) := dk_54 5 (dk_at dksX11_headByte_0 5 rfl rfl)
theorem dX11_headByte_7 : decode cX11_headByte 7 = .ok (.iload 5, 2) := dk_21 5 (dk_at dksX11_headByte_0 7 rfl rfl)
theorem dX11_headByte_9 : decode cX11_headByte 9 = .ok (.iload_n 3, 1) := dk_29 (dk_at dksX11_headByte_0 9 rfl rfl)
theorem dX11_headByte_10 : decode cX11_headByte 10 = .ok (.if_icmp .ge 23, 3) := dk_162 0 23 (dk_at dksX11_headByte_0 10 rfl rfl)
theorem dX11_headByte_13 : decode cX11_headByte 13 = .ok (.iload 4, 2) := dk_21 4 (dk_at dksX11_headByte_0 13 rfl rfl)
theorem dX11_headByte_15 : decode cX11_headByte 15 = .ok (.iload_n 1, 1) := dk_27 (dk_at dksX11_headByte_0 15 rfl rfl)
theorem dX11_headByte_16 : decode cX11_headByte 16 = .ok (.iload_n 2, 1) := dk_28 (dk_at dksX11_headByte_0 16 rfl rfl)
theorem dX11_headByte_17 : decode cX11_headByte 17 = .ok (.iload 5, 2) := dk_21 5 (dk_at dksX11_headByte_0 17 rfl rfl)
theorem dX11_headByte_19 : decode cX11_headByte 19 = .ok (.invokestatic 380, 3) := dk_184 1 124 (dk_at dksX11_headByte_0 19 rfl rfl)
theorem dX11_headByte_22 : decode cX11_headByte 22 = .ok (.invokestatic 384, 3) := dk_184 1 128 (dk_at dksX11_headByte_1 0 rfl rfl)
theorem dX11_headByte_25 : decode cX11_headByte 25 = .ok (.istore 4, 2) := dk_54 4 (dk_at dksX11_headByte_1 3 rfl rfl)
theorem dX11_headByte_27 : decode cX11_headByte 27 = .ok (.iinc 5 1, 3) := dk_132 5 1 (dk_at dksX11_headByte_1 5 rfl rfl)
theorem dX11_headByte_30 : decode cX11_headByte 30 = .ok (.goto (-23), 3) := dk_167 255 233 (dk_at dksX11_headByte_1 8 rfl rfl)
theorem dX11_headByte_33 : decode cX11_headByte 33 = .ok (.iload_n 3, 1) := dk_29 (dk_at dksX11_headByte_1 11 rfl rfl)
theorem dX11_headByte_34 : decode cX11_headByte 34 = .ok (.iconst 4, 1) := dk_7 (dk_at dksX11_headByte_1 12 rfl rfl)
theorem dX11_headByte_35 : decode cX11_headByte 35 = .ok (.if_icmp .ne 8, 3) := dk_160 0 8 (dk_at dksX11_headByte_1 13 rfl rfl)
theorem dX11_headByte_38 : decode cX11_headByte 38 = .ok (.iload 4, 2) := dk_21 4 (dk_at dksX11_headByte_1 16 rfl rfl)
theorem dX11_headByte_40 : decode cX11_headByte 40 = .ok (.goto 9, 3) := dk_167 0 9 (dk_at dksX11_headByte_1 18 rfl rfl)
theorem dX11_headByte_43 : decode cX11_headByte 43 = .ok (.iload_n 1, 1) := dk_27 (dk_at dksX11_headByte_1 21 rfl rfl)
theorem dX11_headByte_44 : decode cX11_headByte 44 = .ok (.iload_n 2, 1) := dk_28 (dk_at dksX11_headByte_1 22 rfl rfl)
theorem dX11_headByte_45 : decode cX11_headByte 45 = .ok (.iload_n 3, 1) := dk_29 (dk_at dksX11_headByte_1 23 rfl rfl)
theorem dX11_headByte_46 : decode cX11_headByte 46 = .ok (.invokestatic 380, 3) := dk_184 1 124 (dk_at dksX11_headByte_2 0 rfl rfl)
theorem dX11_headByte_49 : decode cX11_headByte 49 = .ok (.ireturn, 1) := dk_172 (dk_at dksX11_headByte_2 3 rfl rfl)
abbrev cX11_headByteAt : ByteArray := prog_26_method_38_code
def yX11_headByteAt : MethodName := ⟨RX11, "headByteAt", "(III)I"⟩
def dkwX11_headByteAt_2 : List UInt8 := [126, 172]
abbrev dktX11_headByteAt_2 : List UInt8 := dkwX11_headByteAt_2 ++ []
def dkwX11_headByteAt_1 : List UInt8 := [126, 167, 0, 24, 28, 5, 160, 0, 14, 27, 16, 8, 122, 17, 0, 255, 126, 167, 0, 8, 27, 17, 0, 255]
abbrev dktX11_headByteAt_1 : List UInt8 := dkwX11_headByteAt_1 ++ dktX11_headByteAt_2
def dkwX11_headByteAt_0 : List UInt8 := [28, 154, 0, 14, 26, 16, 8, 122, 17, 0, 255, 126, 167, 0, 37, 28, 4, 160, 0, 11, 26, 17, 0, 255]
abbrev dktX11_headByteAt_0 : List UInt8 := dkwX11_headByteAt_0 ++ dktX11_headByteAt_1
theorem dksX11_headByteAt_0 : cX11_headByteAt.data.toList.drop 0 = dktX11_headByteAt_0 := by decide +kernel
theorem dksX11_headByteAt_1 : cX11_headByteAt.data.toList.drop 24 = dktX11_headByteAt_1 := dk_seg dksX11_headByteAt_0 24 rfl rfl
theorem dksX11_headByteAt_2 : cX11_headByteAt.data.toList.drop 48 = dktX11_headByteAt_2 := dk_seg dksX11_headByteAt_1 24 rfl rfl
theorem dX11_headByteAt_0 : decode cX11_headByteAt 0 = .ok (.iload_n 2, 1) := dk_28 (dk_at dksX11_headByteAt_0 0 rfl rfl)
theorem dX11_headByteAt_1 : decode cX11_headByteAt 1 = .ok (.ifCond .ne 14, 3) := dk_154 0 14 (dk_at dksX11_headByteAt_0 1 rfl rfl)
theorem dX11_headByteAt_4 : decode cX11_headByteAt 4 = .ok (.iload_n 0, 1) := dk_26 (dk_at dksX11_headByteAt_0 4 rfl rfl)
theorem dX11_headByteAt_5 : decode cX11_headByteAt 5 = .ok (.bipush 8, 2) := dk_16 8 (dk_at dksX11_headByteAt_0 5 rfl rfl)
theorem dX11_headByteAt_7 : decode cX11_headByteAt 7 = .ok (.ishr, 1) := dk_122 (dk_at dksX11_headByteAt_0 7 rfl rfl)
theorem dX11_headByteAt_8 : decode cX11_headByteAt 8 = .ok (.sipush 255, 3) := dk_17 0 255 (dk_at dksX11_headByteAt_0 8 rfl rfl)
theorem dX11_headByteAt_11 : decode cX11_headByteAt 11 = .ok (.iand, 1) := dk_126 (dk_at dksX11_headByteAt_0 11 rfl rfl)
theorem dX11_headByteAt_12 : decode cX11_headByteAt 12 = .ok (.goto 37, 3) := dk_167 0 37 (dk_at dksX11_headByteAt_0 12 rfl rfl)
theorem dX11_headByteAt_15 : decode cX11_headByteAt 15 = .ok (.iload_n 2, 1) := dk_28 (dk_at dksX11_headByteAt_0 15 rfl rfl)
theorem dX11_headByteAt_16 : decode cX11_headByteAt 16 = .ok (.iconst 1, 1) := dk_4 (dk_at dksX11_headByteAt_0 16 rfl rfl)
theorem dX11_headByteAt_17 : decode cX11_headByteAt 17 = .ok (.if_icmp .ne 11, 3) := dk_160 0 11 (dk_at dksX11_headByteAt_0 17 rfl rfl)
theorem dX11_headByteAt_20 : decode cX11_headByteAt 20 = .ok (.iload_n 0, 1) := dk_26 (dk_at dksX11_headByteAt_0 20 rfl rfl)
theorem dX11_headByteAt_21 : decode cX11_headByteAt 21 = .ok (.sipush 255, 3) := dk_17 0 255 (dk_at dksX11_headByteAt_0 21 rfl rfl)
theorem dX11_headByteAt_24 : decode cX11_headByteAt 24 = .ok (.iand, 1) := dk_126 (dk_at dksX11_headByteAt_1 0 rfl rfl)
theorem dX11_headByteAt_25 : decode cX11_headByteAt 25 = .ok (.goto 24, 3) := dk_167 0 24 (dk_at dksX11_headByteAt_1 1 rfl rfl)
theorem dX11_headByteAt_28 : decode cX11_headByteAt 28 = .ok (.iload_n 2, 1) := dk_28 (dk_at dksX11_headByteAt_1 4 rfl rfl)
theorem dX11_headByteAt_29 : decode cX11_headByteAt 29 = .ok (.iconst 2, 1) := dk_5 (dk_at dksX11_headByteAt_1 5 rfl rfl)
theorem dX11_headByteAt_30 : decode cX11_headByteAt 30 = .ok (.if_icmp .ne 14, 3) := dk_160 0 14 (dk_at dksX11_headByteAt_1 6 rfl rfl)
theorem dX11_headByteAt_33 : decode cX11_headByteAt 33 = .ok (.iload_n 1, 1) := dk_27 (dk_at dksX11_headByteAt_1 9 rfl rfl)
theorem dX11_headByteAt_34 : decode cX11_headByteAt 34 = .ok (.bipush 8, 2) := dk_16 8 (dk_at dksX11_headByteAt_1 10 rfl rfl)
theorem dX11_headByteAt_36 : decode cX11_headByteAt 36 = .ok (.ishr, 1) := dk_122 (dk_at dksX11_headByteAt_1 12 rfl rfl)
theorem dX11_headByteAt_37 : decode cX11_headByteAt 37 = .ok (.sipush 255, 3) := dk_17 0 255 (dk_at dksX11_headByteAt_1 13 rfl rfl)
theorem dX11_headByteAt_40 : decode cX11_headByteAt 40 = .ok (.iand, 1) := dk_126 (dk_at dksX11_headByteAt_1 16 rfl rfl)
theorem dX11_headByteAt_41 : decode cX11_headByteAt 41 = .ok (.goto 8, 3) := dk_167 0 8 (dk_at dksX11_headByteAt_1 17 rfl rfl)
theorem dX11_headByteAt_44 : decode cX11_headByteAt 44 = .ok (.iload_n 1, 1) := dk_27 (dk_at dksX11_headByteAt_1 20 rfl rfl)
theorem dX11_headByteAt_45 : decode cX11_headByteAt 45 = .ok (.sipush 255, 3) := dk_17 0 255 (dk_at dksX11_headByteAt_1 21 rfl rfl)
theorem dX11_headByteAt_48 : decode cX11_headByteAt 48 = .ok (.iand, 1) := dk_126 (dk_at dksX11_headByteAt_2 0 rfl rfl)
theorem dX11_headByteAt_49 : decode cX11_headByteAt 49 = .ok (.ireturn, 1) := dk_172 (dk_at dksX11_headByteAt_2 1 rfl rfl)
abbrev cX11_checkBy : ByteArray := prog_26_method_35_code
def yX11_checkBy : MethodName := ⟨RX11, "checkBy", "(II)I"⟩
def dkwX11_checkBy_0 : List UInt8 := [6, 26, 104, 27, 96, 17, 0, 251, 112, 172]
abbrev dktX11_checkBy_0 : List UInt8 := dkwX11_checkBy_0 ++ []
theorem dksX11_checkBy_0 : cX11_checkBy.data.toList.drop 0 = dktX11_checkBy_0 := by decide +kernel
theorem dX11_checkBy_0 : decode cX11_checkBy 0 = .ok (.iconst 3, 1) := dk_6 (dk_at dksX11_checkBy_0 0 rfl rfl)
theorem dX11_checkBy_1 : decode cX11_checkBy 1 = .ok (.iload_n 0, 1) := dk_26 (dk_at dksX11_checkBy_0 1 rfl rfl)
theorem dX11_checkBy_2 : decode cX11_checkBy 2 = .ok (.imul, 1) := dk_104 (dk_at dksX11_checkBy_0 2 rfl rfl)
theorem dX11_checkBy_3 : decode cX11_checkBy 3 = .ok (.iload_n 1, 1) := dk_27 (dk_at dksX11_checkBy_0 3 rfl rfl)
theorem dX11_checkBy_4 : decode cX11_checkBy 4 = .ok (.iadd, 1) := dk_96 (dk_at dksX11_checkBy_0 4 rfl rfl)
theorem dX11_checkBy_5 : decode cX11_checkBy 5 = .ok (.sipush 251, 3) := dk_17 0 251 (dk_at dksX11_checkBy_0 5 rfl rfl)
theorem dX11_checkBy_8 : decode cX11_checkBy 8 = .ok (.irem, 1) := dk_112 (dk_at dksX11_checkBy_0 8 rfl rfl)
theorem dX11_checkBy_9 : decode cX11_checkBy 9 = .ok (.ireturn, 1) := dk_172 (dk_at dksX11_checkBy_0 9 rfl rfl)
abbrev cX11_lands : ByteArray := prog_26_method_29_code
def yX11_lands : MethodName := ⟨RX11, "lands", "(II)V"⟩
def dkwX11_lands_0 : List UInt8 := [42, 180, 0, 111, 17, 2, 196, 27, 96, 28, 79, 42, 180, 0, 111, 17, 0, 196, 27, 96, 3, 79, 177]
abbrev dktX11_lands_0 : List UInt8 := dkwX11_lands_0 ++ []
theorem dksX11_lands_0 : cX11_lands.data.toList.drop 0 = dktX11_lands_0 := by decide +kernel
theorem dX11_lands_0 : decode cX11_lands 0 = .ok (.aload_n 0, 1) := dk_42 (dk_at dksX11_lands_0 0 rfl rfl)
theorem dX11_lands_1 : decode cX11_lands 1 = .ok (.getfield 111, 3) := dk_180 0 111 (dk_at dksX11_lands_0 1 rfl rfl)
theorem dX11_lands_4 : decode cX11_lands 4 = .ok (.sipush 708, 3) := dk_17 2 196 (dk_at dksX11_lands_0 4 rfl rfl)
theorem dX11_lands_7 : decode cX11_lands 7 = .ok (.iload_n 1, 1) := dk_27 (dk_at dksX11_lands_0 7 rfl rfl)
theorem dX11_lands_8 : decode cX11_lands 8 = .ok (.iadd, 1) := dk_96 (dk_at dksX11_lands_0 8 rfl rfl)
theorem dX11_lands_9 : decode cX11_lands 9 = .ok (.iload_n 2, 1) := dk_28 (dk_at dksX11_lands_0 9 rfl rfl)
theorem dX11_lands_10 : decode cX11_lands 10 = .ok (.iastore, 1) := dk_79 (dk_at dksX11_lands_0 10 rfl rfl)
theorem dX11_lands_11 : decode cX11_lands 11 = .ok (.aload_n 0, 1) := dk_42 (dk_at dksX11_lands_0 11 rfl rfl)
theorem dX11_lands_12 : decode cX11_lands 12 = .ok (.getfield 111, 3) := dk_180 0 111 (dk_at dksX11_lands_0 12 rfl rfl)
theorem dX11_lands_15 : decode cX11_lands 15 = .ok (.sipush 196, 3) := dk_17 0 196 (dk_at dksX11_lands_0 15 rfl rfl)
theorem dX11_lands_18 : decode cX11_lands 18 = .ok (.iload_n 1, 1) := dk_27 (dk_at dksX11_lands_0 18 rfl rfl)
theorem dX11_lands_19 : decode cX11_lands 19 = .ok (.iadd, 1) := dk_96 (dk_at dksX11_lands_0 19 rfl rfl)
theorem dX11_lands_20 : decode cX11_lands 20 = .ok (.iconst 0, 1) := dk_3 (dk_at dksX11_lands_0 20 rfl rfl)
theorem dX11_lands_21 : decode cX11_lands 21 = .ok (.iastore, 1) := dk_79 (dk_at dksX11_lands_0 21 rfl rfl)
theorem dX11_lands_22 : decode cX11_lands 22 = .ok (.return_, 1) := dk_177 (dk_at dksX11_lands_0 22 rfl rfl)
abbrev cX11_canAppend : ByteArray := prog_26_method_111_code
def yX11_canAppend : MethodName := ⟨RX11, "canAppend", "(I)Z"⟩
def dkwX11_canAppend_1 : List UInt8 := [6, 27, 96, 182, 1, 167, 153, 0, 7, 4, 167, 0, 4, 3, 172]
abbrev dktX11_canAppend_1 : List UInt8 := dkwX11_canAppend_1 ++ []
def dkwX11_canAppend_0 : List UInt8 := [42, 180, 0, 111, 16, 11, 46, 16, 16, 162, 0, 28, 42, 180, 0, 111, 16, 10, 46, 154, 0, 18, 42, 8]
abbrev dktX11_canAppend_0 : List UInt8 := dkwX11_canAppend_0 ++ dktX11_canAppend_1
theorem dksX11_canAppend_0 : cX11_canAppend.data.toList.drop 0 = dktX11_canAppend_0 := by decide +kernel
theorem dksX11_canAppend_1 : cX11_canAppend.data.toList.drop 24 = dktX11_canAppend_1 := dk_seg dksX11_canAppend_0 24 rfl rfl
theorem dX11_canAppend_0 : decode cX11_canAppend 0 = .ok (.aload_n 0, 1) := dk_42 (dk_at dksX11_canAppend_0 0 rfl rfl)
theorem dX11_canAppend_1 : decode cX11_canAppend 1 = .ok (.getfield 111, 3) := dk_180 0 111 (dk_at dksX11_canAppend_0 1 rfl rfl)
theorem dX11_canAppend_4 : decode cX11_canAppend 4 = .ok (.bipush 11, 2) := dk_16 11 (dk_at dksX11_canAppend_0 4 rfl rfl)
theorem dX11_canAppend_6 : decode cX11_canAppend 6 = .ok (.iaload, 1) := dk_46 (dk_at dksX11_canAppend_0 6 rfl rfl)
theorem dX11_canAppend_7 : decode cX11_canAppend 7 = .ok (.bipush 16, 2) := dk_16 16 (dk_at dksX11_canAppend_0 7 rfl rfl)
theorem dX11_canAppend_9 : decode cX11_canAppend 9 = .ok (.if_icmp .ge 28, 3) := dk_162 0 28 (dk_at dksX11_canAppend_0 9 rfl rfl)
theorem dX11_canAppend_12 : decode cX11_canAppend 12 = .ok (.aload_n 0, 1) := dk_42 (dk_at dksX11_canAppend_0 12 rfl rfl)
theorem dX11_canAppend_13 : decode cX11_canAppend 13 = .ok (.getfield 111, 3) := dk_180 0 111 (dk_at dksX11_canAppend_0 13 rfl rfl)
theorem dX11_canAppend_16 : decode cX11_canAppend 16 = .ok (.bipush 10, 2) := dk_16 10 (dk_at dksX11_canAppend_0 16 rfl rfl)
theorem dX11_canAppend_18 : decode cX11_canAppend 18 = .ok (.iaload, 1) := dk_46 (dk_at dksX11_canAppend_0 18 rfl rfl)
theorem dX11_canAppend_19 : decode cX11_canAppend 19 = .ok (.ifCond .ne 18, 3) := dk_154 0 18 (dk_at dksX11_canAppend_0 19 rfl rfl)
theorem dX11_canAppend_22 : decode cX11_canAppend 22 = .ok (.aload_n 0, 1) := dk_42 (dk_at dksX11_canAppend_0 22 rfl rfl)
theorem dX11_canAppend_23 : decode cX11_canAppend 23 = .ok (.iconst 5, 1) := dk_8 (dk_at dksX11_canAppend_0 23 rfl rfl)
theorem dX11_canAppend_24 : decode cX11_canAppend 24 = .ok (.iconst 3, 1) := dk_6 (dk_at dksX11_canAppend_1 0 rfl rfl)
theorem dX11_canAppend_25 : decode cX11_canAppend 25 = .ok (.iload_n 1, 1) := dk_27 (dk_at dksX11_canAppend_1 1 rfl rfl)
theorem dX11_canAppend_26 : decode cX11_canAppend 26 = .ok (.iadd, 1) := dk_96 (dk_at dksX11_canAppend_1 2 rfl rfl)
theorem dX11_canAppend_27 : decode cX11_canAppend 27 = .ok (.invokevirtual 423, 3) := dk_182 1 167 (dk_at dksX11_canAppend_1 3 rfl rfl)
theorem dX11_canAppend_30 : decode cX11_canAppend 30 = .ok (.ifCond .eq 7, 3) := dk_153 0 7 (dk_at dksX11_canAppend_1 6 rfl rfl)
theorem dX11_canAppend_33 : decode cX11_canAppend 33 = .ok (.iconst 1, 1) := dk_4 (dk_at dksX11_canAppend_1 9 rfl rfl)
theorem dX11_canAppend_34 : decode cX11_canAppend 34 = .ok (.goto 4, 3) := dk_167 0 4 (dk_at dksX11_canAppend_1 10 rfl rfl)
theorem dX11_canAppend_37 : decode cX11_canAppend 37 = .ok (.iconst 0, 1) := dk_3 (dk_at dksX11_canAppend_1 13 rfl rfl)
theorem dX11_canAppend_38 : decode cX11_canAppend 38 = .ok (.ireturn, 1) := dk_172 (dk_at dksX11_canAppend_1 14 rfl rfl)
abbrev cX11_hasRoom : ByteArray := prog_26_method_44_code
def yX11_hasRoom : MethodName := ⟨RX11, "hasRoom", "(II)Z"⟩
def dkwX11_hasRoom_3 : List UInt8 := [96, 54, 4, 29, 21, 6, 100, 62, 167, 255, 181, 29, 154, 0, 7, 4, 167, 0, 4, 3, 172]
abbrev dktX11_hasRoom_3 : List UInt8 := dkwX11_hasRoom_3 ++ []
def dkwX11_hasRoom_2 : List UInt8 := [29, 21, 5, 7, 100, 162, 0, 7, 29, 167, 0, 7, 21, 5, 7, 100, 54, 6, 21, 4, 7, 21, 6, 96]
abbrev dktX11_hasRoom_2 : List UInt8 := dkwX11_hasRoom_2 ++ dktX11_hasRoom_3
def dkwX11_hasRoom_1 : List UInt8 := [42, 182, 1, 149, 112, 100, 54, 5, 21, 5, 7, 163, 0, 13, 21, 4, 21, 5, 96, 54, 4, 167, 0, 35]
abbrev dktX11_hasRoom_1 : List UInt8 := dkwX11_hasRoom_1 ++ dktX11_hasRoom_2
def dkwX11_hasRoom_0 : List UInt8 := [28, 62, 27, 54, 4, 29, 158, 0, 77, 21, 4, 42, 182, 1, 146, 162, 0, 68, 42, 182, 1, 149, 21, 4]
abbrev dktX11_hasRoom_0 : List UInt8 := dkwX11_hasRoom_0 ++ dktX11_hasRoom_1
theorem dksX11_hasRoom_0 : cX11_hasRoom.data.toList.drop 0 = dktX11_hasRoom_0 := by decide +kernel
theorem dksX11_hasRoom_1 : cX11_hasRoom.data.toList.drop 24 = dktX11_hasRoom_1 := dk_seg dksX11_hasRoom_0 24 rfl rfl
theorem dksX11_hasRoom_2 : cX11_hasRoom.data.toList.drop 48 = dktX11_hasRoom_2 := dk_seg dksX11_hasRoom_1 24 rfl rfl
theorem dksX11_hasRoom_3 : cX11_hasRoom.data.toList.drop 72 = dktX11_hasRoom_3 := dk_seg dksX11_hasRoom_2 24 rfl rfl
theorem dX11_hasRoom_0 : decode cX11_hasRoom 0 = .ok (.iload_n 2, 1) := dk_28 (dk_at dksX11_hasRoom_0 0 rfl rfl)
theorem dX11_hasRoom_1 : decode cX11_hasRoom 1 = .ok (.istore_n 3, 1) := dk_62 (dk_at dksX11_hasRoom_0 1 rfl rfl)
theorem dX11_hasRoom_2 : decode cX11_hasRoom 2 = .ok (.iload_n 1, 1) := dk_27 (dk_at dksX11_hasRoom_0 2 rfl rfl)
theorem dX11_hasRoom_3 : decode cX11_hasRoom 3 = .ok (.istore 4, 2) := dk_54 4 (dk_at dksX11_hasRoom_0 3 rfl rfl)
theorem dX11_hasRoom_5 : decode cX11_hasRoom 5 = .ok (.iload_n 3, 1) := dk_29 (dk_at dksX11_hasRoom_0 5 rfl rfl)
theorem dX11_hasRoom_6 : decode cX11_hasRoom 6 = .ok (.ifCond .le 77, 3) := dk_158 0 77 (dk_at dksX11_hasRoom_0 6 rfl rfl)
theorem dX11_hasRoom_9 : decode cX11_hasRoom 9 = .ok (.iload 4, 2) := dk_21 4 (dk_at dksX11_hasRoom_0 9 rfl rfl)
theorem dX11_hasRoom_11 : decode cX11_hasRoom 11 = .ok (.aload_n 0, 1) := dk_42 (dk_at dksX11_hasRoom_0 11 rfl rfl)
theorem dX11_hasRoom_12 : decode cX11_hasRoom 12 = .ok (.invokevirtual 402, 3) := dk_182 1 146 (dk_at dksX11_hasRoom_0 12 rfl rfl)
theorem dX11_hasRoom_15 : decode cX11_hasRoom 15 = .ok (.if_icmp .ge 68, 3) := dk_162 0 68 (dk_at dksX11_hasRoom_0 15 rfl rfl)
theorem dX11_hasRoom_18 : decode cX11_hasRoom 18 = .ok (.aload_n 0, 1) := dk_42 (dk_at dksX11_hasRoom_0 18 rfl rfl)
theorem dX11_hasRoom_19 : decode cX11_hasRoom 19 = .ok (.invokevirtual 405, 3) := dk_182 1 149 (dk_at dksX11_hasRoom_0 19 rfl rfl)
theorem dX11_hasRoom_22 : decode cX11_hasRoom 22 = .ok (.iload 4, 2) := dk_21 4 (dk_at dksX11_hasRoom_0 22 rfl rfl)
theorem dX11_hasRoom_24 : decode cX11_hasRoom 24 = .ok (.aload_n 0, 1) := dk_42 (dk_at dksX11_hasRoom_1 0 rfl rfl)
theorem dX11_hasRoom_25 : decode cX11_hasRoom 25 = .ok (.invokevirtual 405, 3) := dk_182 1 149 (dk_at dksX11_hasRoom_1 1 rfl rfl)
theorem dX11_hasRoom_28 : decode cX11_hasRoom 28 = .ok (.irem, 1) := dk_112 (dk_at dksX11_hasRoom_1 4 rfl rfl)
theorem dX11_hasRoom_29 : decode cX11_hasRoom 29 = .ok (.isub, 1) := dk_100 (dk_at dksX11_hasRoom_1 5 rfl rfl)
theorem dX11_hasRoom_30 : decode cX11_hasRoom 30 = .ok (.istore 5, 2) := dk_54 5 (dk_at dksX11_hasRoom_1 6 rfl rfl)
theorem dX11_hasRoom_32 : decode cX11_hasRoom 32 = .ok (.iload 5, 2) := dk_21 5 (dk_at dksX11_hasRoom_1 8 rfl rfl)
theorem dX11_hasRoom_34 : decode cX11_hasRoom 34 = .ok (.iconst 4, 1) := dk_7 (dk_at dksX11_hasRoom_1 10 rfl rfl)
theorem dX11_hasRoom_35 : decode cX11_hasRoom 35 = .ok (.if_icmp .gt 13, 3) := dk_163 0 13 (dk_at dksX11_hasRoom_1 11 rfl rfl)
theorem dX11_hasRoom_38 : decode cX11_hasRoom 38 = .ok (.iload 4, 2) := dk_21 4 (dk_at dksX11_hasRoom_1 14 rfl rfl)
theorem dX11_hasRoom_40 : decode cX11_hasRoom 40 = .ok (.iload 5, 2) := dk_21 5 (dk_at dksX11_hasRoom_1 16 rfl rfl)
theorem dX11_hasRoom_42 : decode cX11_hasRoom 42 = .ok (.iadd, 1) := dk_96 (dk_at dksX11_hasRoom_1 18 rfl rfl)
theorem dX11_hasRoom_43 : decode cX11_hasRoom 43 = .ok (.istore 4, 2) := dk_54 4 (dk_at dksX11_hasRoom_1 19 rfl rfl)
theorem dX11_hasRoom_45 : decode cX11_hasRoom 45 = .ok (.goto 35, 3) := dk_167 0 35 (dk_at dksX11_hasRoom_1 21 rfl rfl)
theorem dX11_hasRoom_48 : decode cX11_hasRoom 48 = .ok (.iload_n 3, 1) := dk_29 (dk_at dksX11_hasRoom_2 0 rfl rfl)
theorem dX11_hasRoom_49 : decode cX11_hasRoom 49 = .ok (.iload 5, 2) := dk_21 5 (dk_at dksX11_hasRoom_2 1 rfl rfl)
theorem dX11_hasRoom_51 : decode cX11_hasRoom 51 = .ok (.iconst 4, 1) := dk_7 (dk_at dksX11_hasRoom_2 3 rfl rfl)
theorem dX11_hasRoom_52 : decode cX11_hasRoom 52 = .ok (.isub, 1) := dk_100 (dk_at dksX11_hasRoom_2 4 rfl rfl)
theorem dX11_hasRoom_53 : decode cX11_hasRoom 53 = .ok (.if_icmp .ge 7, 3) := dk_162 0 7 (dk_at dksX11_hasRoom_2 5 rfl rfl)
theorem dX11_hasRoom_56 : decode cX11_hasRoom 56 = .ok (.iload_n 3, 1) := dk_29 (dk_at dksX11_hasRoom_2 8 rfl rfl)
theorem dX11_hasRoom_57 : decode cX11_hasRoom 57 = .ok (.goto 7, 3) := dk_167 0 7 (dk_at dksX11_hasRoom_2 9 rfl rfl)
theorem dX11_hasRoom_60 : decode cX11_hasRoom 60 = .ok (.iload 5, 2) := dk_21 5 (dk_at dksX11_hasRoom_2 12 rfl rfl)
theorem dX11_hasRoom_62 : decode cX11_hasRoom 62 = .ok (.iconst 4, 1) := dk_7 (dk_at dksX11_hasRoom_2 14 rfl rfl)
theorem dX11_hasRoom_63 : decode cX11_hasRoom 63 = .ok (.isub, 1) := dk_100 (dk_at dksX11_hasRoom_2 15 rfl rfl)
theorem dX11_hasRoom_64 : decode cX11_hasRoom 64 = .ok (.istore 6, 2) := dk_54 6 (dk_at dksX11_hasRoom_2 16 rfl rfl)
theorem dX11_hasRoom_66 : decode cX11_hasRoom 66 = .ok (.iload 4, 2) := dk_21 4 (dk_at dksX11_hasRoom_2 18 rfl rfl)
theorem dX11_hasRoom_68 : decode cX11_hasRoom 68 = .ok (.iconst 4, 1) := dk_7 (dk_at dksX11_hasRoom_2 20 rfl rfl)
theorem dX11_hasRoom_69 : decode cX11_hasRoom 69 = .ok (.iload 6, 2) := dk_21 6 (dk_at dksX11_hasRoom_2 21 rfl rfl)
theorem dX11_hasRoom_71 : decode cX11_hasRoom 71 = .ok (.iadd, 1) := dk_96 (dk_at dksX11_hasRoom_2 23 rfl rfl)
theorem dX11_hasRoom_72 : decode cX11_hasRoom 72 = .ok (.iadd, 1) := dk_96 (dk_at dksX11_hasRoom_3 0 rfl rfl)
theorem dX11_hasRoom_73 : decode cX11_hasRoom 73 = .ok (.istore 4, 2) := dk_54 4 (dk_at dksX11_hasRoom_3 1 rfl rfl)
theorem dX11_hasRoom_75 : decode cX11_hasRoom 75 = .ok (.iload_n 3, 1) := dk_29 (dk_at dksX11_hasRoom_3 3 rfl rfl)
theorem dX11_hasRoom_76 : decode cX11_hasRoom 76 = .ok (.iload 6, 2) := dk_21 6 (dk_at dksX11_hasRoom_3 4 rfl rfl)
theorem dX11_hasRoom_78 : decode cX11_hasRoom 78 = .ok (.isub, 1) := dk_100 (dk_at dksX11_hasRoom_3 6 rfl rfl)
theorem dX11_hasRoom_79 : decode cX11_hasRoom 79 = .ok (.istore_n 3, 1) := dk_62 (dk_at dksX11_hasRoom_3 7 rfl rfl)
theorem dX11_hasRoom_80 : decode cX11_hasRoom 80 = .ok (.goto (-75), 3) := dk_167 255 181 (dk_at dksX11_hasRoom_3 8 rfl rfl)
theorem dX11_hasRoom_83 : decode cX11_hasRoom 83 = .ok (.iload_n 3, 1) := dk_29 (dk_at dksX11_hasRoom_3 11 rfl rfl)
theorem dX11_hasRoom_84 : decode cX11_hasRoom 84 = .ok (.ifCond .ne 7, 3) := dk_154 0 7 (dk_at dksX11_hasRoom_3 12 rfl rfl)
theorem dX11_hasRoom_87 : decode cX11_hasRoom 87 = .ok (.iconst 1, 1) := dk_4 (dk_at dksX11_hasRoom_3 15 rfl rfl)
theorem dX11_hasRoom_88 : decode cX11_hasRoom 88 = .ok (.goto 4, 3) := dk_167 0 4 (dk_at dksX11_hasRoom_3 16 rfl rfl)
theorem dX11_hasRoom_91 : decode cX11_hasRoom 91 = .ok (.iconst 0, 1) := dk_3 (dk_at dksX11_hasRoom_3 19 rfl rfl)
theorem dX11_hasRoom_92 : decode cX11_hasRoom 92 = .ok (.ireturn, 1) := dk_172 (dk_at dksX11_hasRoom_3 20 rfl rfl)
abbrev cX11_length : ByteArray := prog_26_method_26_code
def yX11_length : MethodName := ⟨RX11, "length", "()I"⟩
def dkwX11_length_0 : List UInt8 := [42, 180, 0, 96, 16, 6, 46, 42, 180, 0, 96, 16, 7, 46, 104, 172]
abbrev dktX11_length_0 : List UInt8 := dkwX11_length_0 ++ []
theorem dksX11_length_0 : cX11_length.data.toList.drop 0 = dktX11_length_0 := by decide +kernel
theorem dX11_length_0 : decode cX11_length 0 = .ok (.aload_n 0, 1) := dk_42 (dk_at dksX11_length_0 0 rfl rfl)
theorem dX11_length_1 : decode cX11_length 1 = .ok (.getfield 96, 3) := dk_180 0 96 (dk_at dksX11_length_0 1 rfl rfl)
theorem dX11_length_4 : decode cX11_length 4 = .ok (.bipush 6, 2) := dk_16 6 (dk_at dksX11_length_0 4 rfl rfl)
theorem dX11_length_6 : decode cX11_length 6 = .ok (.iaload, 1) := dk_46 (dk_at dksX11_length_0 6 rfl rfl)
theorem dX11_length_7 : decode cX11_length 7 = .ok (.aload_n 0, 1) := dk_42 (dk_at dksX11_length_0 7 rfl rfl)
theorem dX11_length_8 : decode cX11_length 8 = .ok (.getfield 96, 3) := dk_180 0 96 (dk_at dksX11_length_0 8 rfl rfl)
theorem dX11_length_11 : decode cX11_length 11 = .ok (.bipush 7, 2) := dk_16 7 (dk_at dksX11_length_0 11 rfl rfl)
theorem dX11_length_13 : decode cX11_length 13 = .ok (.iaload, 1) := dk_46 (dk_at dksX11_length_0 13 rfl rfl)
theorem dX11_length_14 : decode cX11_length 14 = .ok (.imul, 1) := dk_104 (dk_at dksX11_length_0 14 rfl rfl)
theorem dX11_length_15 : decode cX11_length 15 = .ok (.ireturn, 1) := dk_172 (dk_at dksX11_length_0 15 rfl rfl)
abbrev cX11_blockBytes : ByteArray := prog_26_method_25_code
def yX11_blockBytes : MethodName := ⟨RX11, "blockBytes", "()I"⟩
def dkwX11_blockBytes_0 : List UInt8 := [42, 180, 0, 96, 16, 7, 46, 172]
abbrev dktX11_blockBytes_0 : List UInt8 := dkwX11_blockBytes_0 ++ []
theorem dksX11_blockBytes_0 : cX11_blockBytes.data.toList.drop 0 = dktX11_blockBytes_0 := by decide +kernel
theorem dX11_blockBytes_0 : decode cX11_blockBytes 0 = .ok (.aload_n 0, 1) := dk_42 (dk_at dksX11_blockBytes_0 0 rfl rfl)
theorem dX11_blockBytes_1 : decode cX11_blockBytes 1 = .ok (.getfield 96, 3) := dk_180 0 96 (dk_at dksX11_blockBytes_0 1 rfl rfl)
theorem dX11_blockBytes_4 : decode cX11_blockBytes 4 = .ok (.bipush 7, 2) := dk_16 7 (dk_at dksX11_blockBytes_0 4 rfl rfl)
theorem dX11_blockBytes_6 : decode cX11_blockBytes 6 = .ok (.iaload, 1) := dk_46 (dk_at dksX11_blockBytes_0 6 rfl rfl)
theorem dX11_blockBytes_7 : decode cX11_blockBytes 7 = .ok (.ireturn, 1) := dk_172 (dk_at dksX11_blockBytes_0 7 rfl rfl)
abbrev cX11_appends : ByteArray := prog_26_method_112_code
def yX11_appends : MethodName := ⟨RX11, "appends", "(III)V"⟩
def dkwX11_appends_3 : List UInt8 := [180, 0, 111, 16, 11, 92, 46, 4, 96, 79, 177]
abbrev dktX11_appends_3 : List UInt8 := dkwX11_appends_3 ++ []
def dkwX11_appends_2 : List UInt8 := [21, 4, 6, 96, 42, 180, 0, 111, 3, 46, 79, 42, 180, 0, 111, 4, 92, 46, 4, 96, 79, 42]
abbrev dktX11_appends_2 : List UInt8 := dkwX11_appends_2 ++ dktX11_appends_3
def dkwX11_appends_1 : List UInt8 := [42, 180, 0, 111, 21, 4, 4, 96, 28, 79, 42, 180, 0, 111, 21, 4, 5, 96, 29, 79, 42, 180, 0, 111]
abbrev dktX11_appends_1 : List UInt8 := dkwX11_appends_1 ++ dktX11_appends_2
def dkwX11_appends_0 : List UInt8 := [16, 16, 7, 42, 180, 0, 111, 4, 46, 16, 31, 126, 104, 96, 54, 4, 42, 180, 0, 111, 21, 4, 27, 79]
abbrev dktX11_appends_0 : List UInt8 := dkwX11_appends_0 ++ dktX11_appends_1
theorem dksX11_appends_0 : cX11_appends.data.toList.drop 0 = dktX11_appends_0 := by decide +kernel
theorem dksX11_appends_1 : cX11_appends.data.toList.drop 24 = dktX11_appends_1 := dk_seg dksX11_appends_0 24 rfl rfl
theorem dksX11_appends_2 : cX11_appends.data.toList.drop 48 = dktX11_appends_2 := dk_seg dksX11_appends_1 24 rfl rfl
theorem dksX11_appends_3 : cX11_appends.data.toList.drop 70 = dktX11_appends_3 := dk_seg dksX11_appends_2 22 rfl rfl
theorem dX11_appends_0 : decode cX11_appends 0 = .ok (.bipush 16, 2) := dk_16 16 (dk_at dksX11_appends_0 0 rfl rfl)
theorem dX11_appends_2 : decode cX11_appends 2 = .ok (.iconst 4, 1) := dk_7 (dk_at dksX11_appends_0 2 rfl rfl)
theorem dX11_appends_3 : decode cX11_appends 3 = .ok (.aload_n 0, 1) := dk_42 (dk_at dksX11_appends_0 3 rfl rfl)
theorem dX11_appends_4 : decode cX11_appends 4 = .ok (.getfield 111, 3) := dk_180 0 111 (dk_at dksX11_appends_0 4 rfl rfl)
theorem dX11_appends_7 : decode cX11_appends 7 = .ok (.iconst 1, 1) := dk_4 (dk_at dksX11_appends_0 7 rfl rfl)
theorem dX11_appends_8 : decode cX11_appends 8 = .ok (.iaload, 1) := dk_46 (dk_at dksX11_appends_0 8 rfl rfl)
theorem dX11_appends_9 : decode cX11_appends 9 = .ok (.bipush 31, 2) := dk_16 31 (dk_at dksX11_appends_0 9 rfl rfl)
theorem dX11_appends_11 : decode cX11_appends 11 = .ok (.iand, 1) := dk_126 (dk_at dksX11_appends_0 11 rfl rfl)
theorem dX11_appends_12 : decode cX11_appends 12 = .ok (.imul, 1) := dk_104 (dk_at dksX11_appends_0 12 rfl rfl)
theorem dX11_appends_13 : decode cX11_appends 13 = .ok (.iadd, 1) := dk_96 (dk_at dksX11_appends_0 13 rfl rfl)
theorem dX11_appends_14 : decode cX11_appends 14 = .ok (.istore 4, 2) := dk_54 4 (dk_at dksX11_appends_0 14 rfl rfl)
theorem dX11_appends_16 : decode cX11_appends 16 = .ok (.aload_n 0, 1) := dk_42 (dk_at dksX11_appends_0 16 rfl rfl)
theorem dX11_appends_17 : decode cX11_appends 17 = .ok (.getfield 111, 3) := dk_180 0 111 (dk_at dksX11_appends_0 17 rfl rfl)
theorem dX11_appends_20 : decode cX11_appends 20 = .ok (.iload 4, 2) := dk_21 4 (dk_at dksX11_appends_0 20 rfl rfl)
theorem dX11_appends_22 : decode cX11_appends 22 = .ok (.iload_n 1, 1) := dk_27 (dk_at dksX11_appends_0 22 rfl rfl)
theorem dX11_appends_23 : decode cX11_appends 23 = .ok (.iastore, 1) := dk_79 (dk_at dksX11_appends_0 23 rfl rfl)
theorem dX11_appends_24 : decode cX11_appends 24 = .ok (.aload_n 0, 1) := dk_42 (dk_at dksX11_appends_1 0 rfl rfl)
theorem dX11_appends_25 : decode cX11_appends 25 = .ok (.getfield 111, 3) := dk_180 0 111 (dk_at dksX11_appends_1 1 rfl rfl)
theorem dX11_appends_28 : decode cX11_appends 28 = .ok (.iload 4, 2) := dk_21 4 (dk_at dksX11_appends_1 4 rfl rfl)
theorem dX11_appends_30 : decode cX11_appends 30 = .ok (.iconst 1, 1) := dk_4 (dk_at dksX11_appends_1 6 rfl rfl)
theorem dX11_appends_31 : decode cX11_appends 31 = .ok (.iadd, 1) := dk_96 (dk_at dksX11_appends_1 7 rfl rfl)
theorem dX11_appends_32 : decode cX11_appends 32 = .ok (.iload_n 2, 1) := dk_28 (dk_at dksX11_appends_1 8 rfl rfl)
theorem dX11_appends_33 : decode cX11_appends 33 = .ok (.iastore, 1) := dk_79 (dk_at dksX11_appends_1 9 rfl rfl)
theorem dX11_appends_34 : decode cX11_appends 34 = .ok (.aload_n 0, 1) := dk_42 (dk_at dksX11_appends_1 10 rfl rfl)
theorem dX11_appends_35 : decode cX11_appends 35 = .ok (.getfield 111, 3) := dk_180 0 111 (dk_at dksX11_appends_1 11 rfl rfl)
theorem dX11_appends_38 : decode cX11_appends 38 = .ok (.iload 4, 2) := dk_21 4 (dk_at dksX11_appends_1 14 rfl rfl)
theorem dX11_appends_40 : decode cX11_appends 40 = .ok (.iconst 2, 1) := dk_5 (dk_at dksX11_appends_1 16 rfl rfl)
theorem dX11_appends_41 : decode cX11_appends 41 = .ok (.iadd, 1) := dk_96 (dk_at dksX11_appends_1 17 rfl rfl)
theorem dX11_appends_42 : decode cX11_appends 42 = .ok (.iload_n 3, 1) := dk_29 (dk_at dksX11_appends_1 18 rfl rfl)
theorem dX11_appends_43 : decode cX11_appends 43 = .ok (.iastore, 1) := dk_79 (dk_at dksX11_appends_1 19 rfl rfl)
theorem dX11_appends_44 : decode cX11_appends 44 = .ok (.aload_n 0, 1) := dk_42 (dk_at dksX11_appends_1 20 rfl rfl)
theorem dX11_appends_45 : decode cX11_appends 45 = .ok (.getfield 111, 3) := dk_180 0 111 (dk_at dksX11_appends_1 21 rfl rfl)
theorem dX11_appends_48 : decode cX11_appends 48 = .ok (.iload 4, 2) := dk_21 4 (dk_at dksX11_appends_2 0 rfl rfl)
theorem dX11_appends_50 : decode cX11_appends 50 = .ok (.iconst 3, 1) := dk_6 (dk_at dksX11_appends_2 2 rfl rfl)
theorem dX11_appends_51 : decode cX11_appends 51 = .ok (.iadd, 1) := dk_96 (dk_at dksX11_appends_2 3 rfl rfl)
theorem dX11_appends_52 : decode cX11_appends 52 = .ok (.aload_n 0, 1) := dk_42 (dk_at dksX11_appends_2 4 rfl rfl)
theorem dX11_appends_53 : decode cX11_appends 53 = .ok (.getfield 111, 3) := dk_180 0 111 (dk_at dksX11_appends_2 5 rfl rfl)
theorem dX11_appends_56 : decode cX11_appends 56 = .ok (.iconst 0, 1) := dk_3 (dk_at dksX11_appends_2 8 rfl rfl)
theorem dX11_appends_57 : decode cX11_appends 57 = .ok (.iaload, 1) := dk_46 (dk_at dksX11_appends_2 9 rfl rfl)
theorem dX11_appends_58 : decode cX11_appends 58 = .ok (.iastore, 1) := dk_79 (dk_at dksX11_appends_2 10 rfl rfl)
theorem dX11_appends_59 : decode cX11_appends 59 = .ok (.aload_n 0, 1) := dk_42 (dk_at dksX11_appends_2 11 rfl rfl)
theorem dX11_appends_60 : decode cX11_appends 60 = .ok (.getfield 111, 3) := dk_180 0 111 (dk_at dksX11_appends_2 12 rfl rfl)
theorem dX11_appends_63 : decode cX11_appends 63 = .ok (.iconst 1, 1) := dk_4 (dk_at dksX11_appends_2 15 rfl rfl)
theorem dX11_appends_64 : decode cX11_appends 64 = .ok (.dup2, 1) := dk_92 (dk_at dksX11_appends_2 16 rfl rfl)
theorem dX11_appends_65 : decode cX11_appends 65 = .ok (.iaload, 1) := dk_46 (dk_at dksX11_appends_2 17 rfl rfl)
theorem dX11_appends_66 : decode cX11_appends 66 = .ok (.iconst 1, 1) := dk_4 (dk_at dksX11_appends_2 18 rfl rfl)
theorem dX11_appends_67 : decode cX11_appends 67 = .ok (.iadd, 1) := dk_96 (dk_at dksX11_appends_2 19 rfl rfl)
theorem dX11_appends_68 : decode cX11_appends 68 = .ok (.iastore, 1) := dk_79 (dk_at dksX11_appends_2 20 rfl rfl)
theorem dX11_appends_69 : decode cX11_appends 69 = .ok (.aload_n 0, 1) := dk_42 (dk_at dksX11_appends_2 21 rfl rfl)
theorem dX11_appends_70 : decode cX11_appends 70 = .ok (.getfield 111, 3) := dk_180 0 111 (dk_at dksX11_appends_3 0 rfl rfl)
theorem dX11_appends_73 : decode cX11_appends 73 = .ok (.bipush 11, 2) := dk_16 11 (dk_at dksX11_appends_3 3 rfl rfl)
theorem dX11_appends_75 : decode cX11_appends 75 = .ok (.dup2, 1) := dk_92 (dk_at dksX11_appends_3 5 rfl rfl)
theorem dX11_appends_76 : decode cX11_appends 76 = .ok (.iaload, 1) := dk_46 (dk_at dksX11_appends_3 6 rfl rfl)
theorem dX11_appends_77 : decode cX11_appends 77 = .ok (.iconst 1, 1) := dk_4 (dk_at dksX11_appends_3 7 rfl rfl)
theorem dX11_appends_78 : decode cX11_appends 78 = .ok (.iadd, 1) := dk_96 (dk_at dksX11_appends_3 8 rfl rfl)
theorem dX11_appends_79 : decode cX11_appends 79 = .ok (.iastore, 1) := dk_79 (dk_at dksX11_appends_3 9 rfl rfl)
theorem dX11_appends_80 : decode cX11_appends 80 = .ok (.return_, 1) := dk_177 (dk_at dksX11_appends_3 10 rfl rfl)
abbrev cX11_fault : ByteArray := prog_26_method_23_code
def yX11_fault : MethodName := ⟨RX11, "fault", "(I)I"⟩
def dkwX11_fault_1 : List UInt8 := [172]
abbrev dktX11_fault_1 : List UInt8 := dkwX11_fault_1 ++ []
def dkwX11_fault_0 : List UInt8 := [27, 154, 0, 10, 42, 180, 1, 74, 167, 0, 16, 27, 4, 160, 0, 10, 42, 180, 0, 13, 167, 0, 4, 2]
abbrev dktX11_fault_0 : List UInt8 := dkwX11_fault_0 ++ dktX11_fault_1
theorem dksX11_fault_0 : cX11_fault.data.toList.drop 0 = dktX11_fault_0 := by decide +kernel
theorem dksX11_fault_1 : cX11_fault.data.toList.drop 24 = dktX11_fault_1 := dk_seg dksX11_fault_0 24 rfl rfl
theorem dX11_fault_0 : decode cX11_fault 0 = .ok (.iload_n 1, 1) := dk_27 (dk_at dksX11_fault_0 0 rfl rfl)
theorem dX11_fault_1 : decode cX11_fault 1 = .ok (.ifCond .ne 10, 3) := dk_154 0 10 (dk_at dksX11_fault_0 1 rfl rfl)
theorem dX11_fault_4 : decode cX11_fault 4 = .ok (.aload_n 0, 1) := dk_42 (dk_at dksX11_fault_0 4 rfl rfl)
theorem dX11_fault_5 : decode cX11_fault 5 = .ok (.getfield 330, 3) := dk_180 1 74 (dk_at dksX11_fault_0 5 rfl rfl)
theorem dX11_fault_8 : decode cX11_fault 8 = .ok (.goto 16, 3) := dk_167 0 16 (dk_at dksX11_fault_0 8 rfl rfl)
theorem dX11_fault_11 : decode cX11_fault 11 = .ok (.iload_n 1, 1) := dk_27 (dk_at dksX11_fault_0 11 rfl rfl)
theorem dX11_fault_12 : decode cX11_fault 12 = .ok (.iconst 1, 1) := dk_4 (dk_at dksX11_fault_0 12 rfl rfl)
theorem dX11_fault_13 : decode cX11_fault 13 = .ok (.if_icmp .ne 10, 3) := dk_160 0 10 (dk_at dksX11_fault_0 13 rfl rfl)
theorem dX11_fault_16 : decode cX11_fault 16 = .ok (.aload_n 0, 1) := dk_42 (dk_at dksX11_fault_0 16 rfl rfl)
theorem dX11_fault_17 : decode cX11_fault 17 = .ok (.getfield 13, 3) := dk_180 0 13 (dk_at dksX11_fault_0 17 rfl rfl)
theorem dX11_fault_20 : decode cX11_fault 20 = .ok (.goto 4, 3) := dk_167 0 4 (dk_at dksX11_fault_0 20 rfl rfl)
theorem dX11_fault_23 : decode cX11_fault 23 = .ok (.iconst (-1), 1) := dk_2 (dk_at dksX11_fault_0 23 rfl rfl)
theorem dX11_fault_24 : decode cX11_fault 24 = .ok (.ireturn, 1) := dk_172 (dk_at dksX11_fault_1 0 rfl rfl)
abbrev cX11_has : ByteArray := prog_26_method_80_code
def yX11_has : MethodName := ⟨RX11, "has", "(I)I"⟩
def dkwX11_has_6 : List UInt8 := [180, 0, 111, 16, 10, 46, 172, 2, 172]
abbrev dktX11_has_6 : List UInt8 := dkwX11_has_6 ++ []
def dkwX11_has_5 : List UInt8 := [182, 2, 55, 172, 42, 180, 0, 111, 17, 8, 196, 46, 172, 42, 180, 1, 94, 172, 42, 180, 1, 91, 172, 42]
abbrev dktX11_has_5 : List UInt8 := dkwX11_has_5 ++ dktX11_has_6
def dkwX11_has_4 : List UInt8 := [180, 0, 111, 6, 46, 172, 42, 180, 0, 111, 16, 9, 46, 172, 42, 180, 0, 111, 16, 12, 46, 172, 42]
abbrev dktX11_has_4 : List UInt8 := dkwX11_has_4 ++ dktX11_has_5
def dkwX11_has_3 : List UInt8 := [42, 180, 0, 111, 5, 46, 172, 42, 180, 0, 111, 16, 11, 46, 172, 42, 180, 0, 111, 7, 46, 172, 42]
abbrev dktX11_has_3 : List UInt8 := dkwX11_has_3 ++ dktX11_has_4
def dkwX11_has_2 : List UInt8 := [42, 182, 1, 104, 172, 42, 182, 1, 146, 172, 42, 180, 0, 111, 3, 46, 172, 42, 180, 0, 111, 4, 46, 172]
abbrev dktX11_has_2 : List UInt8 := dkwX11_has_2 ++ dktX11_has_3
def dkwX11_has_1 : List UInt8 := [170, 0, 0, 0, 0, 0, 176, 0, 0, 0, 0, 0, 0, 0, 14, 0, 0, 0, 75, 0, 0, 0, 80, 0, 0, 0, 85, 0, 0, 0, 92, 0, 0, 0, 99, 0, 0, 0, 106, 0, 0, 0, 114, 0, 0, 0, 121, 0, 0, 0, 128, 0, 0, 0, 136, 0, 0, 0, 144, 0, 0, 0, 149, 0, 0, 0, 158, 0, 0, 0, 163, 0, 0, 0, 168]
abbrev dktX11_has_1 : List UInt8 := dkwX11_has_1 ++ dktX11_has_2
def dkwX11_has_0 : List UInt8 := [27]
abbrev dktX11_has_0 : List UInt8 := dkwX11_has_0 ++ dktX11_has_1
theorem dksX11_has_0 : cX11_has.data.toList.drop 0 = dktX11_has_0 := by decide +kernel
theorem dksX11_has_1 : cX11_has.data.toList.drop 1 = dktX11_has_1 := dk_seg dksX11_has_0 1 rfl rfl
theorem dksX11_has_2 : cX11_has.data.toList.drop 76 = dktX11_has_2 := dk_seg dksX11_has_1 75 rfl rfl
theorem dksX11_has_3 : cX11_has.data.toList.drop 100 = dktX11_has_3 := dk_seg dksX11_has_2 24 rfl rfl
theorem dksX11_has_4 : cX11_has.data.toList.drop 123 = dktX11_has_4 := dk_seg dksX11_has_3 23 rfl rfl
theorem dksX11_has_5 : cX11_has.data.toList.drop 146 = dktX11_has_5 := dk_seg dksX11_has_4 23 rfl rfl
theorem dksX11_has_6 : cX11_has.data.toList.drop 170 = dktX11_has_6 := dk_seg dksX11_has_5 24 rfl rfl
theorem dX11_has_0 : decode cX11_has 0 = .ok (.iload_n 1, 1) := dk_27 (dk_at dksX11_has_0 0 rfl rfl)
theorem dX11_has_1 : decode cX11_has 1 = .ok (.tableswitch 176 0 14 #[75, 80, 85, 92, 99, 106, 114, 121, 128, 136, 144, 149, 158, 163, 168], 75) := by decide +kernel
theorem dX11_has_76 : decode cX11_has 76 = .ok (.aload_n 0, 1) := dk_42 (dk_at dksX11_has_2 0 rfl rfl)
theorem dX11_has_77 : decode cX11_has 77 = .ok (.invokevirtual 360, 3) := dk_182 1 104 (dk_at dksX11_has_2 1 rfl rfl)
theorem dX11_has_80 : decode cX11_has 80 = .ok (.ireturn, 1) := dk_172 (dk_at dksX11_has_2 4 rfl rfl)
theorem dX11_has_81 : decode cX11_has 81 = .ok (.aload_n 0, 1) := dk_42 (dk_at dksX11_has_2 5 rfl rfl)
theorem dX11_has_82 : decode cX11_has 82 = .ok (.invokevirtual 402, 3) := dk_182 1 146 (dk_at dksX11_has_2 6 rfl rfl)
theorem dX11_has_85 : decode cX11_has 85 = .ok (.ireturn, 1) := dk_172 (dk_at dksX11_has_2 9 rfl rfl)
theorem dX11_has_86 : decode cX11_has 86 = .ok (.aload_n 0, 1) := dk_42 (dk_at dksX11_has_2 10 rfl rfl)
theorem dX11_has_87 : decode cX11_has 87 = .ok (.getfield 111, 3) := dk_180 0 111 (dk_at dksX11_has_2 11 rfl rfl)
theorem dX11_has_90 : decode cX11_has 90 = .ok (.iconst 0, 1) := dk_3 (dk_at dksX11_has_2 14 rfl rfl)
theorem dX11_has_91 : decode cX11_has 91 = .ok (.iaload, 1) := dk_46 (dk_at dksX11_has_2 15 rfl rfl)
theorem dX11_has_92 : decode cX11_has 92 = .ok (.ireturn, 1) := dk_172 (dk_at dksX11_has_2 16 rfl rfl)
theorem dX11_has_93 : decode cX11_has 93 = .ok (.aload_n 0, 1) := dk_42 (dk_at dksX11_has_2 17 rfl rfl)
theorem dX11_has_94 : decode cX11_has 94 = .ok (.getfield 111, 3) := dk_180 0 111 (dk_at dksX11_has_2 18 rfl rfl)
theorem dX11_has_97 : decode cX11_has 97 = .ok (.iconst 1, 1) := dk_4 (dk_at dksX11_has_2 21 rfl rfl)
theorem dX11_has_98 : decode cX11_has 98 = .ok (.iaload, 1) := dk_46 (dk_at dksX11_has_2 22 rfl rfl)
theorem dX11_has_99 : decode cX11_has 99 = .ok (.ireturn, 1) := dk_172 (dk_at dksX11_has_2 23 rfl rfl)
theorem dX11_has_100 : decode cX11_has 100 = .ok (.aload_n 0, 1) := dk_42 (dk_at dksX11_has_3 0 rfl rfl)
theorem dX11_has_101 : decode cX11_has 101 = .ok (.getfield 111, 3) := dk_180 0 111 (dk_at dksX11_has_3 1 rfl rfl)
theorem dX11_has_104 : decode cX11_has 104 = .ok (.iconst 2, 1) := dk_5 (dk_at dksX11_has_3 4 rfl rfl)
theorem dX11_has_105 : decode cX11_has 105 = .ok (.iaload, 1) := dk_46 (dk_at dksX11_has_3 5 rfl rfl)
theorem dX11_has_106 : decode cX11_has 106 = .ok (.ireturn, 1) := dk_172 (dk_at dksX11_has_3 6 rfl rfl)
theorem dX11_has_107 : decode cX11_has 107 = .ok (.aload_n 0, 1) := dk_42 (dk_at dksX11_has_3 7 rfl rfl)
theorem dX11_has_108 : decode cX11_has 108 = .ok (.getfield 111, 3) := dk_180 0 111 (dk_at dksX11_has_3 8 rfl rfl)
theorem dX11_has_111 : decode cX11_has 111 = .ok (.bipush 11, 2) := dk_16 11 (dk_at dksX11_has_3 11 rfl rfl)
theorem dX11_has_113 : decode cX11_has 113 = .ok (.iaload, 1) := dk_46 (dk_at dksX11_has_3 13 rfl rfl)
theorem dX11_has_114 : decode cX11_has 114 = .ok (.ireturn, 1) := dk_172 (dk_at dksX11_has_3 14 rfl rfl)
theorem dX11_has_115 : decode cX11_has 115 = .ok (.aload_n 0, 1) := dk_42 (dk_at dksX11_has_3 15 rfl rfl)
theorem dX11_has_116 : decode cX11_has 116 = .ok (.getfield 111, 3) := dk_180 0 111 (dk_at dksX11_has_3 16 rfl rfl)
theorem dX11_has_119 : decode cX11_has 119 = .ok (.iconst 4, 1) := dk_7 (dk_at dksX11_has_3 19 rfl rfl)
theorem dX11_has_120 : decode cX11_has 120 = .ok (.iaload, 1) := dk_46 (dk_at dksX11_has_3 20 rfl rfl)
theorem dX11_has_121 : decode cX11_has 121 = .ok (.ireturn, 1) := dk_172 (dk_at dksX11_has_3 21 rfl rfl)
theorem dX11_has_122 : decode cX11_has 122 = .ok (.aload_n 0, 1) := dk_42 (dk_at dksX11_has_3 22 rfl rfl)
theorem dX11_has_123 : decode cX11_has 123 = .ok (.getfield 111, 3) := dk_180 0 111 (dk_at dksX11_has_4 0 rfl rfl)
theorem dX11_has_126 : decode cX11_has 126 = .ok (.iconst 3, 1) := dk_6 (dk_at dksX11_has_4 3 rfl rfl)
theorem dX11_has_127 : decode cX11_has 127 = .ok (.iaload, 1) := dk_46 (dk_at dksX11_has_4 4 rfl rfl)
theorem dX11_has_128 : decode cX11_has 128 = .ok (.ireturn, 1) := dk_172 (dk_at dksX11_has_4 5 rfl rfl)
theorem dX11_has_129 : decode cX11_has 129 = .ok (.aload_n 0, 1) := dk_42 (dk_at dksX11_has_4 6 rfl rfl)
theorem dX11_has_130 : decode cX11_has 130 = .ok (.getfield 111, 3) := dk_180 0 111 (dk_at dksX11_has_4 7 rfl rfl)
theorem dX11_has_133 : decode cX11_has 133 = .ok (.bipush 9, 2) := dk_16 9 (dk_at dksX11_has_4 10 rfl rfl)
theorem dX11_has_135 : decode cX11_has 135 = .ok (.iaload, 1) := dk_46 (dk_at dksX11_has_4 12 rfl rfl)
theorem dX11_has_136 : decode cX11_has 136 = .ok (.ireturn, 1) := dk_172 (dk_at dksX11_has_4 13 rfl rfl)
theorem dX11_has_137 : decode cX11_has 137 = .ok (.aload_n 0, 1) := dk_42 (dk_at dksX11_has_4 14 rfl rfl)
theorem dX11_has_138 : decode cX11_has 138 = .ok (.getfield 111, 3) := dk_180 0 111 (dk_at dksX11_has_4 15 rfl rfl)
theorem dX11_has_141 : decode cX11_has 141 = .ok (.bipush 12, 2) := dk_16 12 (dk_at dksX11_has_4 18 rfl rfl)
theorem dX11_has_143 : decode cX11_has 143 = .ok (.iaload, 1) := dk_46 (dk_at dksX11_has_4 20 rfl rfl)
theorem dX11_has_144 : decode cX11_has 144 = .ok (.ireturn, 1) := dk_172 (dk_at dksX11_has_4 21 rfl rfl)
theorem dX11_has_145 : decode cX11_has 145 = .ok (.aload_n 0, 1) := dk_42 (dk_at dksX11_has_4 22 rfl rfl)
theorem dX11_has_146 : decode cX11_has 146 = .ok (.invokevirtual 567, 3) := dk_182 2 55 (dk_at dksX11_has_5 0 rfl rfl)
theorem dX11_has_149 : decode cX11_has 149 = .ok (.ireturn, 1) := dk_172 (dk_at dksX11_has_5 3 rfl rfl)
theorem dX11_has_150 : decode cX11_has 150 = .ok (.aload_n 0, 1) := dk_42 (dk_at dksX11_has_5 4 rfl rfl)
theorem dX11_has_151 : decode cX11_has 151 = .ok (.getfield 111, 3) := dk_180 0 111 (dk_at dksX11_has_5 5 rfl rfl)
theorem dX11_has_154 : decode cX11_has 154 = .ok (.sipush 2244, 3) := dk_17 8 196 (dk_at dksX11_has_5 8 rfl rfl)
theorem dX11_has_157 : decode cX11_has 157 = .ok (.iaload, 1) := dk_46 (dk_at dksX11_has_5 11 rfl rfl)
theorem dX11_has_158 : decode cX11_has 158 = .ok (.ireturn, 1) := dk_172 (dk_at dksX11_has_5 12 rfl rfl)
theorem dX11_has_159 : decode cX11_has 159 = .ok (.aload_n 0, 1) := dk_42 (dk_at dksX11_has_5 13 rfl rfl)
theorem dX11_has_160 : decode cX11_has 160 = .ok (.getfield 350, 3) := dk_180 1 94 (dk_at dksX11_has_5 14 rfl rfl)
theorem dX11_has_163 : decode cX11_has 163 = .ok (.ireturn, 1) := dk_172 (dk_at dksX11_has_5 17 rfl rfl)
theorem dX11_has_164 : decode cX11_has 164 = .ok (.aload_n 0, 1) := dk_42 (dk_at dksX11_has_5 18 rfl rfl)
theorem dX11_has_165 : decode cX11_has 165 = .ok (.getfield 347, 3) := dk_180 1 91 (dk_at dksX11_has_5 19 rfl rfl)
theorem dX11_has_168 : decode cX11_has 168 = .ok (.ireturn, 1) := dk_172 (dk_at dksX11_has_5 22 rfl rfl)
theorem dX11_has_169 : decode cX11_has 169 = .ok (.aload_n 0, 1) := dk_42 (dk_at dksX11_has_5 23 rfl rfl)
theorem dX11_has_170 : decode cX11_has 170 = .ok (.getfield 111, 3) := dk_180 0 111 (dk_at dksX11_has_6 0 rfl rfl)
theorem dX11_has_173 : decode cX11_has 173 = .ok (.bipush 10, 2) := dk_16 10 (dk_at dksX11_has_6 3 rfl rfl)
theorem dX11_has_175 : decode cX11_has 175 = .ok (.iaload, 1) := dk_46 (dk_at dksX11_has_6 5 rfl rfl)
theorem dX11_has_176 : decode cX11_has 176 = .ok (.ireturn, 1) := dk_172 (dk_at dksX11_has_6 6 rfl rfl)
theorem dX11_has_177 : decode cX11_has 177 = .ok (.iconst (-1), 1) := dk_2 (dk_at dksX11_has_6 7 rfl rfl)
theorem dX11_has_178 : decode cX11_has 178 = .ok (.ireturn, 1) := dk_172 (dk_at dksX11_has_6 8 rfl rfl)
abbrev cX11_segmentMany : ByteArray := prog_26_method_24_code
def yX11_segmentMany : MethodName := ⟨RX11, "segmentMany", "()I"⟩
def dkwX11_segmentMany_0 : List UInt8 := [42, 180, 0, 96, 8, 46, 172]
abbrev dktX11_segmentMany_0 : List UInt8 := dkwX11_segmentMany_0 ++ []
theorem dksX11_segmentMany_0 : cX11_segmentMany.data.toList.drop 0 = dktX11_segmentMany_0 := by decide +kernel
theorem dX11_segmentMany_0 : decode cX11_segmentMany 0 = .ok (.aload_n 0, 1) := dk_42 (dk_at dksX11_segmentMany_0 0 rfl rfl)
theorem dX11_segmentMany_1 : decode cX11_segmentMany 1 = .ok (.getfield 96, 3) := dk_180 0 96 (dk_at dksX11_segmentMany_0 1 rfl rfl)
theorem dX11_segmentMany_4 : decode cX11_segmentMany 4 = .ok (.iconst 5, 1) := dk_8 (dk_at dksX11_segmentMany_0 4 rfl rfl)
theorem dX11_segmentMany_5 : decode cX11_segmentMany 5 = .ok (.iaload, 1) := dk_46 (dk_at dksX11_segmentMany_0 5 rfl rfl)
theorem dX11_segmentMany_6 : decode cX11_segmentMany 6 = .ok (.ireturn, 1) := dk_172 (dk_at dksX11_segmentMany_0 6 rfl rfl)
abbrev cX11_scarMany : ByteArray := prog_26_method_79_code
def yX11_scarMany : MethodName := ⟨RX11, "scarMany", "()I"⟩
def dkwX11_scarMany_1 : List UInt8 := [132, 2, 1, 167, 255, 233, 27, 172]
abbrev dktX11_scarMany_1 : List UInt8 := dkwX11_scarMany_1 ++ []
def dkwX11_scarMany_0 : List UInt8 := [3, 60, 3, 61, 28, 17, 2, 0, 162, 0, 22, 27, 42, 180, 0, 111, 17, 0, 196, 28, 96, 46, 96, 60]
abbrev dktX11_scarMany_0 : List UInt8 := dkwX11_scarMany_0 ++ dktX11_scarMany_1
theorem dksX11_scarMany_0 : cX11_scarMany.data.toList.drop 0 = dktX11_scarMany_0 := by decide +kernel
theorem dksX11_scarMany_1 : cX11_scarMany.data.toList.drop 24 = dktX11_scarMany_1 := dk_seg dksX11_scarMany_0 24 rfl rfl
theorem dX11_scarMany_0 : decode cX11_scarMany 0 = .ok (.iconst 0, 1) := dk_3 (dk_at dksX11_scarMany_0 0 rfl rfl)
theorem dX11_scarMany_1 : decode cX11_scarMany 1 = .ok (.istore_n 1, 1) := dk_60 (dk_at dksX11_scarMany_0 1 rfl rfl)
theorem dX11_scarMany_2 : decode cX11_scarMany 2 = .ok (.iconst 0, 1) := dk_3 (dk_at dksX11_scarMany_0 2 rfl rfl)
theorem dX11_scarMany_3 : decode cX11_scarMany 3 = .ok (.istore_n 2, 1) := dk_61 (dk_at dksX11_scarMany_0 3 rfl rfl)
theorem dX11_scarMany_4 : decode cX11_scarMany 4 = .ok (.iload_n 2, 1) := dk_28 (dk_at dksX11_scarMany_0 4 rfl rfl)
theorem dX11_scarMany_5 : decode cX11_scarMany 5 = .ok (.sipush 512, 3) := dk_17 2 0 (dk_at dksX11_scarMany_0 5 rfl rfl)
theorem dX11_scarMany_8 : decode cX11_scarMany 8 = .ok (.if_icmp .ge 22, 3) := dk_162 0 22 (dk_at dksX11_scarMany_0 8 rfl rfl)
theorem dX11_scarMany_11 : decode cX11_scarMany 11 = .ok (.iload_n 1, 1) := dk_27 (dk_at dksX11_scarMany_0 11 rfl rfl)
theorem dX11_scarMany_12 : decode cX11_scarMany 12 = .ok (.aload_n 0, 1) := dk_42 (dk_at dksX11_scarMany_0 12 rfl rfl)
theorem dX11_scarMany_13 : decode cX11_scarMany 13 = .ok (.getfield 111, 3) := dk_180 0 111 (dk_at dksX11_scarMany_0 13 rfl rfl)
theorem dX11_scarMany_16 : decode cX11_scarMany 16 = .ok (.sipush 196, 3) := dk_17 0 196 (dk_at dksX11_scarMany_0 16 rfl rfl)
theorem dX11_scarMany_19 : decode cX11_scarMany 19 = .ok (.iload_n 2, 1) := dk_28 (dk_at dksX11_scarMany_0 19 rfl rfl)
theorem dX11_scarMany_20 : decode cX11_scarMany 20 = .ok (.iadd, 1) := dk_96 (dk_at dksX11_scarMany_0 20 rfl rfl)
theorem dX11_scarMany_21 : decode cX11_scarMany 21 = .ok (.iaload, 1) := dk_46 (dk_at dksX11_scarMany_0 21 rfl rfl)
theorem dX11_scarMany_22 : decode cX11_scarMany 22 = .ok (.iadd, 1) := dk_96 (dk_at dksX11_scarMany_0 22 rfl rfl)
theorem dX11_scarMany_23 : decode cX11_scarMany 23 = .ok (.istore_n 1, 1) := dk_60 (dk_at dksX11_scarMany_0 23 rfl rfl)
theorem dX11_scarMany_24 : decode cX11_scarMany 24 = .ok (.iinc 2 1, 3) := dk_132 2 1 (dk_at dksX11_scarMany_1 0 rfl rfl)
theorem dX11_scarMany_27 : decode cX11_scarMany 27 = .ok (.goto (-23), 3) := dk_167 255 233 (dk_at dksX11_scarMany_1 3 rfl rfl)
theorem dX11_scarMany_30 : decode cX11_scarMany 30 = .ok (.iload_n 1, 1) := dk_27 (dk_at dksX11_scarMany_1 6 rfl rfl)
theorem dX11_scarMany_31 : decode cX11_scarMany 31 = .ok (.ireturn, 1) := dk_172 (dk_at dksX11_scarMany_1 7 rfl rfl)
abbrev cX11_segment : ByteArray := prog_26_method_81_code
def yX11_segment : MethodName := ⟨RX11, "segment", "(II)I"⟩
def dkwX11_segment_4 : List UInt8 := [167, 0, 4, 3, 172, 42, 27, 182, 2, 61, 172, 2, 172]
abbrev dktX11_segment_4 : List UInt8 := dkwX11_segment_4 ++ []
def dkwX11_segment_3 : List UInt8 := [153, 0, 11, 42, 27, 182, 2, 29, 167, 0, 4, 2, 172, 42, 27, 182, 1, 143, 153, 0, 7, 4]
abbrev dktX11_segment_3 : List UInt8 := dkwX11_segment_3 ++ dktX11_segment_4
def dkwX11_segment_2 : List UInt8 := [42, 27, 182, 2, 23, 153, 0, 11, 42, 27, 182, 1, 241, 167, 0, 4, 2, 172, 42, 27, 182, 2, 23]
abbrev dktX11_segment_2 : List UInt8 := dkwX11_segment_2 ++ dktX11_segment_3
def dkwX11_segment_1 : List UInt8 := [170, 0, 0, 0, 85, 0, 0, 0, 0, 0, 0, 0, 3, 0, 0, 0, 29, 0, 0, 0, 47, 0, 0, 0, 65, 0, 0, 0, 79]
abbrev dktX11_segment_1 : List UInt8 := dkwX11_segment_1 ++ dktX11_segment_2
def dkwX11_segment_0 : List UInt8 := [42, 27, 182, 2, 58, 154, 0, 5, 2, 172, 28]
abbrev dktX11_segment_0 : List UInt8 := dkwX11_segment_0 ++ dktX11_segment_1
theorem dksX11_segment_0 : cX11_segment.data.toList.drop 0 = dktX11_segment_0 := by decide +kernel
theorem dksX11_segment_1 : cX11_segment.data.toList.drop 11 = dktX11_segment_1 := dk_seg dksX11_segment_0 11 rfl rfl
theorem dksX11_segment_2 : cX11_segment.data.toList.drop 40 = dktX11_segment_2 := dk_seg dksX11_segment_1 29 rfl rfl
theorem dksX11_segment_3 : cX11_segment.data.toList.drop 63 = dktX11_segment_3 := dk_seg dksX11_segment_2 23 rfl rfl
theorem dksX11_segment_4 : cX11_segment.data.toList.drop 85 = dktX11_segment_4 := dk_seg dksX11_segment_3 22 rfl rfl
theorem dX11_segment_0 : decode cX11_segment 0 = .ok (.aload_n 0, 1) := dk_42 (dk_at dksX11_segment_0 0 rfl rfl)
theorem dX11_segment_1 : decode cX11_segment 1 = .ok (.iload_n 1, 1) := dk_27 (dk_at dksX11_segment_0 1 rfl rfl)
theorem dX11_segment_2 : decode cX11_segment 2 = .ok (.invokevirtual 570, 3) := dk_182 2 58 (dk_at dksX11_segment_0 2 rfl rfl)
theorem dX11_segment_5 : decode cX11_segment 5 = .ok (.ifCond .ne 5, 3) := dk_154 0 5 (dk_at dksX11_segment_0 5 rfl rfl)
theorem dX11_segment_8 : decode cX11_segment 8 = .ok (.iconst (-1), 1) := dk_2 (dk_at dksX11_segment_0 8 rfl rfl)
theorem dX11_segment_9 : decode cX11_segment 9 = .ok (.ireturn, 1) := dk_172 (dk_at dksX11_segment_0 9 rfl rfl)
theorem dX11_segment_10 : decode cX11_segment 10 = .ok (.iload_n 2, 1) := dk_28 (dk_at dksX11_segment_0 10 rfl rfl)
theorem dX11_segment_11 : decode cX11_segment 11 = .ok (.tableswitch 85 0 3 #[29, 47, 65, 79], 29) := by decide +kernel
theorem dX11_segment_40 : decode cX11_segment 40 = .ok (.aload_n 0, 1) := dk_42 (dk_at dksX11_segment_2 0 rfl rfl)
theorem dX11_segment_41 : decode cX11_segment 41 = .ok (.iload_n 1, 1) := dk_27 (dk_at dksX11_segment_2 1 rfl rfl)
theorem dX11_segment_42 : decode cX11_segment 42 = .ok (.invokevirtual 535, 3) := dk_182 2 23 (dk_at dksX11_segment_2 2 rfl rfl)
theorem dX11_segment_45 : decode cX11_segment 45 = .ok (.ifCond .eq 11, 3) := dk_153 0 11 (dk_at dksX11_segment_2 5 rfl rfl)
theorem dX11_segment_48 : decode cX11_segment 48 = .ok (.aload_n 0, 1) := dk_42 (dk_at dksX11_segment_2 8 rfl rfl)
theorem dX11_segment_49 : decode cX11_segment 49 = .ok (.iload_n 1, 1) := dk_27 (dk_at dksX11_segment_2 9 rfl rfl)
theorem dX11_segment_50 : decode cX11_segment 50 = .ok (.invokevirtual 497, 3) := dk_182 1 241 (dk_at dksX11_segment_2 10 rfl rfl)
theorem dX11_segment_53 : decode cX11_segment 53 = .ok (.goto 4, 3) := dk_167 0 4 (dk_at dksX11_segment_2 13 rfl rfl)
theorem dX11_segment_56 : decode cX11_segment 56 = .ok (.iconst (-1), 1) := dk_2 (dk_at dksX11_segment_2 16 rfl rfl)
theorem dX11_segment_57 : decode cX11_segment 57 = .ok (.ireturn, 1) := dk_172 (dk_at dksX11_segment_2 17 rfl rfl)
theorem dX11_segment_58 : decode cX11_segment 58 = .ok (.aload_n 0, 1) := dk_42 (dk_at dksX11_segment_2 18 rfl rfl)
theorem dX11_segment_59 : decode cX11_segment 59 = .ok (.iload_n 1, 1) := dk_27 (dk_at dksX11_segment_2 19 rfl rfl)
theorem dX11_segment_60 : decode cX11_segment 60 = .ok (.invokevirtual 535, 3) := dk_182 2 23 (dk_at dksX11_segment_2 20 rfl rfl)
theorem dX11_segment_63 : decode cX11_segment 63 = .ok (.ifCond .eq 11, 3) := dk_153 0 11 (dk_at dksX11_segment_3 0 rfl rfl)
theorem dX11_segment_66 : decode cX11_segment 66 = .ok (.aload_n 0, 1) := dk_42 (dk_at dksX11_segment_3 3 rfl rfl)
theorem dX11_segment_67 : decode cX11_segment 67 = .ok (.iload_n 1, 1) := dk_27 (dk_at dksX11_segment_3 4 rfl rfl)
theorem dX11_segment_68 : decode cX11_segment 68 = .ok (.invokevirtual 541, 3) := dk_182 2 29 (dk_at dksX11_segment_3 5 rfl rfl)
theorem dX11_segment_71 : decode cX11_segment 71 = .ok (.goto 4, 3) := dk_167 0 4 (dk_at dksX11_segment_3 8 rfl rfl)
theorem dX11_segment_74 : decode cX11_segment 74 = .ok (.iconst (-1), 1) := dk_2 (dk_at dksX11_segment_3 11 rfl rfl)
theorem dX11_segment_75 : decode cX11_segment 75 = .ok (.ireturn, 1) := dk_172 (dk_at dksX11_segment_3 12 rfl rfl)
theorem dX11_segment_76 : decode cX11_segment 76 = .ok (.aload_n 0, 1) := dk_42 (dk_at dksX11_segment_3 13 rfl rfl)
theorem dX11_segment_77 : decode cX11_segment 77 = .ok (.iload_n 1, 1) := dk_27 (dk_at dksX11_segment_3 14 rfl rfl)
theorem dX11_segment_78 : decode cX11_segment 78 = .ok (.invokevirtual 399, 3) := dk_182 1 143 (dk_at dksX11_segment_3 15 rfl rfl)
theorem dX11_segment_81 : decode cX11_segment 81 = .ok (.ifCond .eq 7, 3) := dk_153 0 7 (dk_at dksX11_segment_3 18 rfl rfl)
theorem dX11_segment_84 : decode cX11_segment 84 = .ok (.iconst 1, 1) := dk_4 (dk_at dksX11_segment_3 21 rfl rfl)
theorem dX11_segment_85 : decode cX11_segment 85 = .ok (.goto 4, 3) := dk_167 0 4 (dk_at dksX11_segment_4 0 rfl rfl)
theorem dX11_segment_88 : decode cX11_segment 88 = .ok (.iconst 0, 1) := dk_3 (dk_at dksX11_segment_4 3 rfl rfl)
theorem dX11_segment_89 : decode cX11_segment 89 = .ok (.ireturn, 1) := dk_172 (dk_at dksX11_segment_4 4 rfl rfl)
theorem dX11_segment_90 : decode cX11_segment 90 = .ok (.aload_n 0, 1) := dk_42 (dk_at dksX11_segment_4 5 rfl rfl)
theorem dX11_segment_91 : decode cX11_segment 91 = .ok (.iload_n 1, 1) := dk_27 (dk_at dksX11_segment_4 6 rfl rfl)
theorem dX11_segment_92 : decode cX11_segment 92 = .ok (.invokevirtual 573, 3) := dk_182 2 61 (dk_at dksX11_segment_4 7 rfl rfl)
theorem dX11_segment_95 : decode cX11_segment 95 = .ok (.ireturn, 1) := dk_172 (dk_at dksX11_segment_4 10 rfl rfl)
theorem dX11_segment_96 : decode cX11_segment 96 = .ok (.iconst (-1), 1) := dk_2 (dk_at dksX11_segment_4 11 rfl rfl)
theorem dX11_segment_97 : decode cX11_segment 97 = .ok (.ireturn, 1) := dk_172 (dk_at dksX11_segment_4 12 rfl rfl)
abbrev cX11_isSegment : ByteArray := prog_26_method_27_code
def yX11_isSegment : MethodName := ⟨RX11, "isSegment", "(I)Z"⟩
def dkwX11_isSegment_1 : List UInt8 := [167, 0, 4, 3, 172]
abbrev dktX11_isSegment_1 : List UInt8 := dkwX11_isSegment_1 ++ []
def dkwX11_isSegment_0 : List UInt8 := [42, 180, 1, 84, 153, 0, 23, 27, 133, 9, 42, 182, 1, 104, 4, 100, 133, 184, 1, 19, 153, 0, 7, 4]
abbrev dktX11_isSegment_0 : List UInt8 := dkwX11_isSegment_0 ++ dktX11_isSegment_1
theorem dksX11_isSegment_0 : cX11_isSegment.data.toList.drop 0 = dktX11_isSegment_0 := by decide +kernel
theorem dksX11_isSegment_1 : cX11_isSegment.data.toList.drop 24 = dktX11_isSegment_1 := dk_seg dksX11_isSegment_0 24 rfl rfl
theorem dX11_isSegment_0 : decode cX11_isSegment 0 = .ok (.aload_n 0, 1) := dk_42 (dk_at dksX11_isSegment_0 0 rfl rfl)
theorem dX11_isSegment_1 : decode cX11_isSegment 1 = .ok (.getfield 340, 3) := dk_180 1 84 (dk_at dksX11_isSegment_0 1 rfl rfl)
theorem dX11_isSegment_4 : decode cX11_isSegment 4 = .ok (.ifCond .eq 23, 3) := dk_153 0 23 (dk_at dksX11_isSegment_0 4 rfl rfl)
theorem dX11_isSegment_7 : decode cX11_isSegment 7 = .ok (.iload_n 1, 1) := dk_27 (dk_at dksX11_isSegment_0 7 rfl rfl)
theorem dX11_isSegment_8 : decode cX11_isSegment 8 = .ok (.i2l, 1) := dk_133 (dk_at dksX11_isSegment_0 8 rfl rfl)
theorem dX11_isSegment_9 : decode cX11_isSegment 9 = .ok (.lconst 0, 1) := dk_9 (dk_at dksX11_isSegment_0 9 rfl rfl)
theorem dX11_isSegment_10 : decode cX11_isSegment 10 = .ok (.aload_n 0, 1) := dk_42 (dk_at dksX11_isSegment_0 10 rfl rfl)
theorem dX11_isSegment_11 : decode cX11_isSegment 11 = .ok (.invokevirtual 360, 3) := dk_182 1 104 (dk_at dksX11_isSegment_0 11 rfl rfl)
theorem dX11_isSegment_14 : decode cX11_isSegment 14 = .ok (.iconst 1, 1) := dk_4 (dk_at dksX11_isSegment_0 14 rfl rfl)
theorem dX11_isSegment_15 : decode cX11_isSegment 15 = .ok (.isub, 1) := dk_100 (dk_at dksX11_isSegment_0 15 rfl rfl)
theorem dX11_isSegment_16 : decode cX11_isSegment 16 = .ok (.i2l, 1) := dk_133 (dk_at dksX11_isSegment_0 16 rfl rfl)
theorem dX11_isSegment_17 : decode cX11_isSegment 17 = .ok (.invokestatic 275, 3) := dk_184 1 19 (dk_at dksX11_isSegment_0 17 rfl rfl)
theorem dX11_isSegment_20 : decode cX11_isSegment 20 = .ok (.ifCond .eq 7, 3) := dk_153 0 7 (dk_at dksX11_isSegment_0 20 rfl rfl)
theorem dX11_isSegment_23 : decode cX11_isSegment 23 = .ok (.iconst 1, 1) := dk_4 (dk_at dksX11_isSegment_0 23 rfl rfl)
theorem dX11_isSegment_24 : decode cX11_isSegment 24 = .ok (.goto 4, 3) := dk_167 0 4 (dk_at dksX11_isSegment_1 0 rfl rfl)
theorem dX11_isSegment_27 : decode cX11_isSegment 27 = .ok (.iconst 0, 1) := dk_3 (dk_at dksX11_isSegment_1 3 rfl rfl)
theorem dX11_isSegment_28 : decode cX11_isSegment 28 = .ok (.ireturn, 1) := dk_172 (dk_at dksX11_isSegment_1 4 rfl rfl)
abbrev cX11_isHead : ByteArray := prog_26_method_64_code
def yX11_isHead : MethodName := ⟨RX11, "isHead", "(I)Z"⟩
def dkwX11_isHead_2 : List UInt8 := [167, 0, 4, 3, 172]
abbrev dktX11_isHead_2 : List UInt8 := dkwX11_isHead_2 ++ []
def dkwX11_isHead_1 : List UInt8 := [167, 255, 237, 28, 42, 27, 7, 182, 1, 238, 160, 0, 15, 42, 27, 182, 1, 241, 153, 0, 7, 4]
abbrev dktX11_isHead_1 : List UInt8 := dkwX11_isHead_1 ++ dktX11_isHead_2
def dkwX11_isHead_0 : List UInt8 := [16, 7, 61, 3, 62, 29, 7, 162, 0, 20, 28, 42, 27, 29, 182, 1, 238, 184, 1, 128, 61, 132, 3, 1]
abbrev dktX11_isHead_0 : List UInt8 := dkwX11_isHead_0 ++ dktX11_isHead_1
theorem dksX11_isHead_0 : cX11_isHead.data.toList.drop 0 = dktX11_isHead_0 := by decide +kernel
theorem dksX11_isHead_1 : cX11_isHead.data.toList.drop 24 = dktX11_isHead_1 := dk_seg dksX11_isHead_0 24 rfl rfl
theorem dksX11_isHead_2 : cX11_isHead.data.toList.drop 46 = dktX11_isHead_2 := dk_seg dksX11_isHead_1 22 rfl rfl
theorem dX11_isHead_0 : decode cX11_isHead 0 = .ok (.bipush 7, 2) := dk_16 7 (dk_at dksX11_isHead_0 0 rfl rfl)
theorem dX11_isHead_2 : decode cX11_isHead 2 = .ok (.istore_n 2, 1) := dk_61 (dk_at dksX11_isHead_0 2 rfl rfl)
theorem dX11_isHead_3 : decode cX11_isHead 3 = .ok (.iconst 0, 1) := dk_3 (dk_at dksX11_isHead_0 3 rfl rfl)
theorem dX11_isHead_4 : decode cX11_isHead 4 = .ok (.istore_n 3, 1) := dk_62 (dk_at dksX11_isHead_0 4 rfl rfl)
theorem dX11_isHead_5 : decode cX11_isHead 5 = .ok (.iload_n 3, 1) := dk_29 (dk_at dksX11_isHead_0 5 rfl rfl)
theorem dX11_isHead_6 : decode cX11_isHead 6 = .ok (.iconst 4, 1) := dk_7 (dk_at dksX11_isHead_0 6 rfl rfl)
theorem dX11_isHead_7 : decode cX11_isHead 7 = .ok (.if_icmp .ge 20, 3) := dk_162 0 20 (dk_at dksX11_isHead_0 7 rfl rfl)
theorem dX11_isHead_10 : decode cX11_isHead 10 = .ok (.iload_n 2, 1) := dk_28 (dk_at dksX11_isHead_0 10 rfl rfl)
theorem dX11_isHead_11 : decode cX11_isHead 11 = .ok (.aload_n 0, 1) := dk_42 (dk_at dksX11_isHead_0 11 rfl rfl)
theorem dX11_isHead_12 : decode cX11_isHead 12 = .ok (.iload_n 1, 1) := dk_27 (dk_at dksX11_isHead_0 12 rfl rfl)
theorem dX11_isHead_13 : decode cX11_isHead 13 = .ok (.iload_n 3, 1) := dk_29 (dk_at dksX11_isHead_0 13 rfl rfl)
theorem dX11_isHead_14 : decode cX11_isHead 14 = .ok (.invokevirtual 494, 3) := dk_182 1 238 (dk_at dksX11_isHead_0 14 rfl rfl)
theorem dX11_isHead_17 : decode cX11_isHead 17 = .ok (.invokestatic 384, 3) := dk_184 1 128 (dk_at dksX11_isHead_0 17 rfl rfl)
theorem dX11_isHead_20 : decode cX11_isHead 20 = .ok (.istore_n 2, 1) := dk_61 (dk_at dksX11_isHead_0 20 rfl rfl)
theorem dX11_isHead_21 : decode cX11_isHead 21 = .ok (.iinc 3 1, 3) := dk_132 3 1 (dk_at dksX11_isHead_0 21 rfl rfl)
theorem dX11_isHead_24 : decode cX11_isHead 24 = .ok (.goto (-19), 3) := dk_167 255 237 (dk_at dksX11_isHead_1 0 rfl rfl)
theorem dX11_isHead_27 : decode cX11_isHead 27 = .ok (.iload_n 2, 1) := dk_28 (dk_at dksX11_isHead_1 3 rfl rfl)
theorem dX11_isHead_28 : decode cX11_isHead 28 = .ok (.aload_n 0, 1) := dk_42 (dk_at dksX11_isHead_1 4 rfl rfl)
theorem dX11_isHead_29 : decode cX11_isHead 29 = .ok (.iload_n 1, 1) := dk_27 (dk_at dksX11_isHead_1 5 rfl rfl)
theorem dX11_isHead_30 : decode cX11_isHead 30 = .ok (.iconst 4, 1) := dk_7 (dk_at dksX11_isHead_1 6 rfl rfl)
theorem dX11_isHead_31 : decode cX11_isHead 31 = .ok (.invokevirtual 494, 3) := dk_182 1 238 (dk_at dksX11_isHead_1 7 rfl rfl)
theorem dX11_isHead_34 : decode cX11_isHead 34 = .ok (.if_icmp .ne 15, 3) := dk_160 0 15 (dk_at dksX11_isHead_1 10 rfl rfl)
theorem dX11_isHead_37 : decode cX11_isHead 37 = .ok (.aload_n 0, 1) := dk_42 (dk_at dksX11_isHead_1 13 rfl rfl)
theorem dX11_isHead_38 : decode cX11_isHead 38 = .ok (.iload_n 1, 1) := dk_27 (dk_at dksX11_isHead_1 14 rfl rfl)
theorem dX11_isHead_39 : decode cX11_isHead 39 = .ok (.invokevirtual 497, 3) := dk_182 1 241 (dk_at dksX11_isHead_1 15 rfl rfl)
theorem dX11_isHead_42 : decode cX11_isHead 42 = .ok (.ifCond .eq 7, 3) := dk_153 0 7 (dk_at dksX11_isHead_1 18 rfl rfl)
theorem dX11_isHead_45 : decode cX11_isHead 45 = .ok (.iconst 1, 1) := dk_4 (dk_at dksX11_isHead_1 21 rfl rfl)
theorem dX11_isHead_46 : decode cX11_isHead 46 = .ok (.goto 4, 3) := dk_167 0 4 (dk_at dksX11_isHead_2 0 rfl rfl)
theorem dX11_isHead_49 : decode cX11_isHead 49 = .ok (.iconst 0, 1) := dk_3 (dk_at dksX11_isHead_2 3 rfl rfl)
theorem dX11_isHead_50 : decode cX11_isHead 50 = .ok (.ireturn, 1) := dk_172 (dk_at dksX11_isHead_2 4 rfl rfl)
abbrev cX11_diskAt : ByteArray := prog_26_method_28_code
def yX11_diskAt : MethodName := ⟨RX11, "diskAt", "(II)I"⟩
def dkwX11_diskAt_0 : List UInt8 := [42, 180, 0, 111, 17, 2, 196, 17, 0, 128, 27, 104, 96, 28, 96, 46, 172]
abbrev dktX11_diskAt_0 : List UInt8 := dkwX11_diskAt_0 ++ []
theorem dksX11_diskAt_0 : cX11_diskAt.data.toList.drop 0 = dktX11_diskAt_0 := by decide +kernel
theorem dX11_diskAt_0 : decode cX11_diskAt 0 = .ok (.aload_n 0, 1) := dk_42 (dk_at dksX11_diskAt_0 0 rfl rfl)
theorem dX11_diskAt_1 : decode cX11_diskAt 1 = .ok (.getfield 111, 3) := dk_180 0 111 (dk_at dksX11_diskAt_0 1 rfl rfl)
theorem dX11_diskAt_4 : decode cX11_diskAt 4 = .ok (.sipush 708, 3) := dk_17 2 196 (dk_at dksX11_diskAt_0 4 rfl rfl)
theorem dX11_diskAt_7 : decode cX11_diskAt 7 = .ok (.sipush 128, 3) := dk_17 0 128 (dk_at dksX11_diskAt_0 7 rfl rfl)
theorem dX11_diskAt_10 : decode cX11_diskAt 10 = .ok (.iload_n 1, 1) := dk_27 (dk_at dksX11_diskAt_0 10 rfl rfl)
theorem dX11_diskAt_11 : decode cX11_diskAt 11 = .ok (.imul, 1) := dk_104 (dk_at dksX11_diskAt_0 11 rfl rfl)
theorem dX11_diskAt_12 : decode cX11_diskAt 12 = .ok (.iadd, 1) := dk_96 (dk_at dksX11_diskAt_0 12 rfl rfl)
theorem dX11_diskAt_13 : decode cX11_diskAt 13 = .ok (.iload_n 2, 1) := dk_28 (dk_at dksX11_diskAt_0 13 rfl rfl)
theorem dX11_diskAt_14 : decode cX11_diskAt 14 = .ok (.iadd, 1) := dk_96 (dk_at dksX11_diskAt_0 14 rfl rfl)
theorem dX11_diskAt_15 : decode cX11_diskAt 15 = .ok (.iaload, 1) := dk_46 (dk_at dksX11_diskAt_0 15 rfl rfl)
theorem dX11_diskAt_16 : decode cX11_diskAt 16 = .ok (.ireturn, 1) := dk_172 (dk_at dksX11_diskAt_0 16 rfl rfl)
abbrev cX11_serialOf : ByteArray := prog_26_method_62_code
def yX11_serialOf : MethodName := ⟨RX11, "serialOf", "(I)I"⟩
def dkwX11_serialOf_0 : List UInt8 := [17, 1, 0, 42, 27, 3, 182, 1, 238, 104, 42, 27, 4, 182, 1, 238, 96, 172]
abbrev dktX11_serialOf_0 : List UInt8 := dkwX11_serialOf_0 ++ []
theorem dksX11_serialOf_0 : cX11_serialOf.data.toList.drop 0 = dktX11_serialOf_0 := by decide +kernel
theorem dX11_serialOf_0 : decode cX11_serialOf 0 = .ok (.sipush 256, 3) := dk_17 1 0 (dk_at dksX11_serialOf_0 0 rfl rfl)
theorem dX11_serialOf_3 : decode cX11_serialOf 3 = .ok (.aload_n 0, 1) := dk_42 (dk_at dksX11_serialOf_0 3 rfl rfl)
theorem dX11_serialOf_4 : decode cX11_serialOf 4 = .ok (.iload_n 1, 1) := dk_27 (dk_at dksX11_serialOf_0 4 rfl rfl)
theorem dX11_serialOf_5 : decode cX11_serialOf 5 = .ok (.iconst 0, 1) := dk_3 (dk_at dksX11_serialOf_0 5 rfl rfl)
theorem dX11_serialOf_6 : decode cX11_serialOf 6 = .ok (.invokevirtual 494, 3) := dk_182 1 238 (dk_at dksX11_serialOf_0 6 rfl rfl)
theorem dX11_serialOf_9 : decode cX11_serialOf 9 = .ok (.imul, 1) := dk_104 (dk_at dksX11_serialOf_0 9 rfl rfl)
theorem dX11_serialOf_10 : decode cX11_serialOf 10 = .ok (.aload_n 0, 1) := dk_42 (dk_at dksX11_serialOf_0 10 rfl rfl)
theorem dX11_serialOf_11 : decode cX11_serialOf 11 = .ok (.iload_n 1, 1) := dk_27 (dk_at dksX11_serialOf_0 11 rfl rfl)
theorem dX11_serialOf_12 : decode cX11_serialOf 12 = .ok (.iconst 1, 1) := dk_4 (dk_at dksX11_serialOf_0 12 rfl rfl)
theorem dX11_serialOf_13 : decode cX11_serialOf 13 = .ok (.invokevirtual 494, 3) := dk_182 1 238 (dk_at dksX11_serialOf_0 13 rfl rfl)
theorem dX11_serialOf_16 : decode cX11_serialOf 16 = .ok (.iadd, 1) := dk_96 (dk_at dksX11_serialOf_0 16 rfl rfl)
theorem dX11_serialOf_17 : decode cX11_serialOf 17 = .ok (.ireturn, 1) := dk_172 (dk_at dksX11_serialOf_0 17 rfl rfl)
abbrev cX11_firstOf : ByteArray := prog_26_method_63_code
def yX11_firstOf : MethodName := ⟨RX11, "firstOf", "(I)I"⟩
def dkwX11_firstOf_0 : List UInt8 := [17, 1, 0, 42, 27, 5, 182, 1, 238, 104, 42, 27, 6, 182, 1, 238, 96, 172]
abbrev dktX11_firstOf_0 : List UInt8 := dkwX11_firstOf_0 ++ []
theorem dksX11_firstOf_0 : cX11_firstOf.data.toList.drop 0 = dktX11_firstOf_0 := by decide +kernel
theorem dX11_firstOf_0 : decode cX11_firstOf 0 = .ok (.sipush 256, 3) := dk_17 1 0 (dk_at dksX11_firstOf_0 0 rfl rfl)
theorem dX11_firstOf_3 : decode cX11_firstOf 3 = .ok (.aload_n 0, 1) := dk_42 (dk_at dksX11_firstOf_0 3 rfl rfl)
theorem dX11_firstOf_4 : decode cX11_firstOf 4 = .ok (.iload_n 1, 1) := dk_27 (dk_at dksX11_firstOf_0 4 rfl rfl)
theorem dX11_firstOf_5 : decode cX11_firstOf 5 = .ok (.iconst 2, 1) := dk_5 (dk_at dksX11_firstOf_0 5 rfl rfl)
theorem dX11_firstOf_6 : decode cX11_firstOf 6 = .ok (.invokevirtual 494, 3) := dk_182 1 238 (dk_at dksX11_firstOf_0 6 rfl rfl)
theorem dX11_firstOf_9 : decode cX11_firstOf 9 = .ok (.imul, 1) := dk_104 (dk_at dksX11_firstOf_0 9 rfl rfl)
theorem dX11_firstOf_10 : decode cX11_firstOf 10 = .ok (.aload_n 0, 1) := dk_42 (dk_at dksX11_firstOf_0 10 rfl rfl)
theorem dX11_firstOf_11 : decode cX11_firstOf 11 = .ok (.iload_n 1, 1) := dk_27 (dk_at dksX11_firstOf_0 11 rfl rfl)
theorem dX11_firstOf_12 : decode cX11_firstOf 12 = .ok (.iconst 3, 1) := dk_6 (dk_at dksX11_firstOf_0 12 rfl rfl)
theorem dX11_firstOf_13 : decode cX11_firstOf 13 = .ok (.invokevirtual 494, 3) := dk_182 1 238 (dk_at dksX11_firstOf_0 13 rfl rfl)
theorem dX11_firstOf_16 : decode cX11_firstOf 16 = .ok (.iadd, 1) := dk_96 (dk_at dksX11_firstOf_0 16 rfl rfl)
theorem dX11_firstOf_17 : decode cX11_firstOf 17 = .ok (.ireturn, 1) := dk_172 (dk_at dksX11_firstOf_0 17 rfl rfl)
abbrev cX11_isFree : ByteArray := prog_26_method_42_code
def yX11_isFree : MethodName := ⟨RX11, "isFree", "(I)Z"⟩
def dkwX11_isFree_2 : List UInt8 := [162, 0, 7, 4, 167, 0, 4, 3, 172]
abbrev dktX11_isFree_2 : List UInt8 := dkwX11_isFree_2 ++ []
def dkwX11_isFree_1 : List UInt8 := [27, 182, 1, 140, 154, 0, 27, 42, 180, 0, 111, 17, 0, 192, 27, 96, 46, 42, 180, 0, 111, 16, 9, 46]
abbrev dktX11_isFree_1 : List UInt8 := dkwX11_isFree_1 ++ dktX11_isFree_2
def dkwX11_isFree_0 : List UInt8 := [42, 180, 0, 111, 8, 46, 27, 159, 0, 48, 42, 180, 0, 111, 16, 13, 46, 27, 4, 96, 159, 0, 35, 42]
abbrev dktX11_isFree_0 : List UInt8 := dkwX11_isFree_0 ++ dktX11_isFree_1
theorem dksX11_isFree_0 : cX11_isFree.data.toList.drop 0 = dktX11_isFree_0 := by decide +kernel
theorem dksX11_isFree_1 : cX11_isFree.data.toList.drop 24 = dktX11_isFree_1 := dk_seg dksX11_isFree_0 24 rfl rfl
theorem dksX11_isFree_2 : cX11_isFree.data.toList.drop 48 = dktX11_isFree_2 := dk_seg dksX11_isFree_1 24 rfl rfl
theorem dX11_isFree_0 : decode cX11_isFree 0 = .ok (.aload_n 0, 1) := dk_42 (dk_at dksX11_isFree_0 0 rfl rfl)
theorem dX11_isFree_1 : decode cX11_isFree 1 = .ok (.getfield 111, 3) := dk_180 0 111 (dk_at dksX11_isFree_0 1 rfl rfl)
theorem dX11_isFree_4 : decode cX11_isFree 4 = .ok (.iconst 5, 1) := dk_8 (dk_at dksX11_isFree_0 4 rfl rfl)
theorem dX11_isFree_5 : decode cX11_isFree 5 = .ok (.iaload, 1) := dk_46 (dk_at dksX11_isFree_0 5 rfl rfl)
theorem dX11_isFree_6 : decode cX11_isFree 6 = .ok (.iload_n 1, 1) := dk_27 (dk_at dksX11_isFree_0 6 rfl rfl)
theorem dX11_isFree_7 : decode cX11_isFree 7 = .ok (.if_icmp .eq 48, 3) := dk_159 0 48 (dk_at dksX11_isFree_0 7 rfl rfl)
theorem dX11_isFree_10 : decode cX11_isFree 10 = .ok (.aload_n 0, 1) := dk_42 (dk_at dksX11_isFree_0 10 rfl rfl)
theorem dX11_isFree_11 : decode cX11_isFree 11 = .ok (.getfield 111, 3) := dk_180 0 111 (dk_at dksX11_isFree_0 11 rfl rfl)
theorem dX11_isFree_14 : decode cX11_isFree 14 = .ok (.bipush 13, 2) := dk_16 13 (dk_at dksX11_isFree_0 14 rfl rfl)
theorem dX11_isFree_16 : decode cX11_isFree 16 = .ok (.iaload, 1) := dk_46 (dk_at dksX11_isFree_0 16 rfl rfl)
theorem dX11_isFree_17 : decode cX11_isFree 17 = .ok (.iload_n 1, 1) := dk_27 (dk_at dksX11_isFree_0 17 rfl rfl)
theorem dX11_isFree_18 : decode cX11_isFree 18 = .ok (.iconst 1, 1) := dk_4 (dk_at dksX11_isFree_0 18 rfl rfl)
theorem dX11_isFree_19 : decode cX11_isFree 19 = .ok (.iadd, 1) := dk_96 (dk_at dksX11_isFree_0 19 rfl rfl)
theorem dX11_isFree_20 : decode cX11_isFree 20 = .ok (.if_icmp .eq 35, 3) := dk_159 0 35 (dk_at dksX11_isFree_0 20 rfl rfl)
theorem dX11_isFree_23 : decode cX11_isFree 23 = .ok (.aload_n 0, 1) := dk_42 (dk_at dksX11_isFree_0 23 rfl rfl)
theorem dX11_isFree_24 : decode cX11_isFree 24 = .ok (.iload_n 1, 1) := dk_27 (dk_at dksX11_isFree_1 0 rfl rfl)
theorem dX11_isFree_25 : decode cX11_isFree 25 = .ok (.invokevirtual 396, 3) := dk_182 1 140 (dk_at dksX11_isFree_1 1 rfl rfl)
theorem dX11_isFree_28 : decode cX11_isFree 28 = .ok (.ifCond .ne 27, 3) := dk_154 0 27 (dk_at dksX11_isFree_1 4 rfl rfl)
theorem dX11_isFree_31 : decode cX11_isFree 31 = .ok (.aload_n 0, 1) := dk_42 (dk_at dksX11_isFree_1 7 rfl rfl)
theorem dX11_isFree_32 : decode cX11_isFree 32 = .ok (.getfield 111, 3) := dk_180 0 111 (dk_at dksX11_isFree_1 8 rfl rfl)
theorem dX11_isFree_35 : decode cX11_isFree 35 = .ok (.sipush 192, 3) := dk_17 0 192 (dk_at dksX11_isFree_1 11 rfl rfl)
theorem dX11_isFree_38 : decode cX11_isFree 38 = .ok (.iload_n 1, 1) := dk_27 (dk_at dksX11_isFree_1 14 rfl rfl)
theorem dX11_isFree_39 : decode cX11_isFree 39 = .ok (.iadd, 1) := dk_96 (dk_at dksX11_isFree_1 15 rfl rfl)
theorem dX11_isFree_40 : decode cX11_isFree 40 = .ok (.iaload, 1) := dk_46 (dk_at dksX11_isFree_1 16 rfl rfl)
theorem dX11_isFree_41 : decode cX11_isFree 41 = .ok (.aload_n 0, 1) := dk_42 (dk_at dksX11_isFree_1 17 rfl rfl)
theorem dX11_isFree_42 : decode cX11_isFree 42 = .ok (.getfield 111, 3) := dk_180 0 111 (dk_at dksX11_isFree_1 18 rfl rfl)
theorem dX11_isFree_45 : decode cX11_isFree 45 = .ok (.bipush 9, 2) := dk_16 9 (dk_at dksX11_isFree_1 21 rfl rfl)
theorem dX11_isFree_47 : decode cX11_isFree 47 = .ok (.iaload, 1) := dk_46 (dk_at dksX11_isFree_1 23 rfl rfl)
theorem dX11_isFree_48 : decode cX11_isFree 48 = .ok (.if_icmp .ge 7, 3) := dk_162 0 7 (dk_at dksX11_isFree_2 0 rfl rfl)
theorem dX11_isFree_51 : decode cX11_isFree 51 = .ok (.iconst 1, 1) := dk_4 (dk_at dksX11_isFree_2 3 rfl rfl)
theorem dX11_isFree_52 : decode cX11_isFree 52 = .ok (.goto 4, 3) := dk_167 0 4 (dk_at dksX11_isFree_2 4 rfl rfl)
theorem dX11_isFree_55 : decode cX11_isFree 55 = .ok (.iconst 0, 1) := dk_3 (dk_at dksX11_isFree_2 7 rfl rfl)
theorem dX11_isFree_56 : decode cX11_isFree 56 = .ok (.ireturn, 1) := dk_172 (dk_at dksX11_isFree_2 8 rfl rfl)
abbrev cX11_isOnWay : ByteArray := prog_26_method_41_code
def yX11_isOnWay : MethodName := ⟨RX11, "isOnWay", "(I)Z"⟩
def dkwX11_isOnWay_1 : List UInt8 := [17, 0, 128, 108, 27, 160, 0, 5, 4, 172, 132, 2, 1, 167, 255, 223, 3, 172]
abbrev dktX11_isOnWay_1 : List UInt8 := dkwX11_isOnWay_1 ++ []
def dkwX11_isOnWay_0 : List UInt8 := [3, 61, 28, 42, 180, 0, 111, 7, 46, 162, 0, 29, 42, 180, 0, 111, 17, 4, 196, 28, 96, 46]
abbrev dktX11_isOnWay_0 : List UInt8 := dkwX11_isOnWay_0 ++ dktX11_isOnWay_1
theorem dksX11_isOnWay_0 : cX11_isOnWay.data.toList.drop 0 = dktX11_isOnWay_0 := by decide +kernel
theorem dksX11_isOnWay_1 : cX11_isOnWay.data.toList.drop 22 = dktX11_isOnWay_1 := dk_seg dksX11_isOnWay_0 22 rfl rfl
theorem dX11_isOnWay_0 : decode cX11_isOnWay 0 = .ok (.iconst 0, 1) := dk_3 (dk_at dksX11_isOnWay_0 0 rfl rfl)
theorem dX11_isOnWay_1 : decode cX11_isOnWay 1 = .ok (.istore_n 2, 1) := dk_61 (dk_at dksX11_isOnWay_0 1 rfl rfl)
theorem dX11_isOnWay_2 : decode cX11_isOnWay 2 = .ok (.iload_n 2, 1) := dk_28 (dk_at dksX11_isOnWay_0 2 rfl rfl)
theorem dX11_isOnWay_3 : decode cX11_isOnWay 3 = .ok (.aload_n 0, 1) := dk_42 (dk_at dksX11_isOnWay_0 3 rfl rfl)
theorem dX11_isOnWay_4 : decode cX11_isOnWay 4 = .ok (.getfield 111, 3) := dk_180 0 111 (dk_at dksX11_isOnWay_0 4 rfl rfl)
theorem dX11_isOnWay_7 : decode cX11_isOnWay 7 = .ok (.iconst 4, 1) := dk_7 (dk_at dksX11_isOnWay_0 7 rfl rfl)
theorem dX11_isOnWay_8 : decode cX11_isOnWay 8 = .ok (.iaload, 1) := dk_46 (dk_at dksX11_isOnWay_0 8 rfl rfl)
theorem dX11_isOnWay_9 : decode cX11_isOnWay 9 = .ok (.if_icmp .ge 29, 3) := dk_162 0 29 (dk_at dksX11_isOnWay_0 9 rfl rfl)
theorem dX11_isOnWay_12 : decode cX11_isOnWay 12 = .ok (.aload_n 0, 1) := dk_42 (dk_at dksX11_isOnWay_0 12 rfl rfl)
theorem dX11_isOnWay_13 : decode cX11_isOnWay 13 = .ok (.getfield 111, 3) := dk_180 0 111 (dk_at dksX11_isOnWay_0 13 rfl rfl)
theorem dX11_isOnWay_16 : decode cX11_isOnWay 16 = .ok (.sipush 1220, 3) := dk_17 4 196 (dk_at dksX11_isOnWay_0 16 rfl rfl)
theorem dX11_isOnWay_19 : decode cX11_isOnWay 19 = .ok (.iload_n 2, 1) := dk_28 (dk_at dksX11_isOnWay_0 19 rfl rfl)
theorem dX11_isOnWay_20 : decode cX11_isOnWay 20 = .ok (.iadd, 1) := dk_96 (dk_at dksX11_isOnWay_0 20 rfl rfl)
theorem dX11_isOnWay_21 : decode cX11_isOnWay 21 = .ok (.iaload, 1) := dk_46 (dk_at dksX11_isOnWay_0 21 rfl rfl)
theorem dX11_isOnWay_22 : decode cX11_isOnWay 22 = .ok (.sipush 128, 3) := dk_17 0 128 (dk_at dksX11_isOnWay_1 0 rfl rfl)
theorem dX11_isOnWay_25 : decode cX11_isOnWay 25 = .ok (.idiv, 1) := dk_108 (dk_at dksX11_isOnWay_1 3 rfl rfl)
theorem dX11_isOnWay_26 : decode cX11_isOnWay 26 = .ok (.iload_n 1, 1) := dk_27 (dk_at dksX11_isOnWay_1 4 rfl rfl)
theorem dX11_isOnWay_27 : decode cX11_isOnWay 27 = .ok (.if_icmp .ne 5, 3) := dk_160 0 5 (dk_at dksX11_isOnWay_1 5 rfl rfl)
theorem dX11_isOnWay_30 : decode cX11_isOnWay 30 = .ok (.iconst 1, 1) := dk_4 (dk_at dksX11_isOnWay_1 8 rfl rfl)
theorem dX11_isOnWay_31 : decode cX11_isOnWay 31 = .ok (.ireturn, 1) := dk_172 (dk_at dksX11_isOnWay_1 9 rfl rfl)
theorem dX11_isOnWay_32 : decode cX11_isOnWay 32 = .ok (.iinc 2 1, 3) := dk_132 2 1 (dk_at dksX11_isOnWay_1 10 rfl rfl)
theorem dX11_isOnWay_35 : decode cX11_isOnWay 35 = .ok (.goto (-33), 3) := dk_167 255 223 (dk_at dksX11_isOnWay_1 13 rfl rfl)
theorem dX11_isOnWay_38 : decode cX11_isOnWay 38 = .ok (.iconst 0, 1) := dk_3 (dk_at dksX11_isOnWay_1 16 rfl rfl)
theorem dX11_isOnWay_39 : decode cX11_isOnWay 39 = .ok (.ireturn, 1) := dk_172 (dk_at dksX11_isOnWay_1 17 rfl rfl)
abbrev cX11_framesOf : ByteArray := prog_26_method_70_code
def yX11_framesOf : MethodName := ⟨RX11, "framesOf", "(I)I"⟩
def dkwX11_framesOf_1 : List UInt8 := [172]
abbrev dktX11_framesOf_1 : List UInt8 := dkwX11_framesOf_1 ++ []
def dkwX11_framesOf_0 : List UInt8 := [42, 27, 182, 2, 23, 154, 0, 5, 3, 172, 42, 3, 181, 1, 251, 42, 27, 182, 2, 26, 42, 180, 2, 1]
abbrev dktX11_framesOf_0 : List UInt8 := dkwX11_framesOf_0 ++ dktX11_framesOf_1
theorem dksX11_framesOf_0 : cX11_framesOf.data.toList.drop 0 = dktX11_framesOf_0 := by decide +kernel
theorem dksX11_framesOf_1 : cX11_framesOf.data.toList.drop 24 = dktX11_framesOf_1 := dk_seg dksX11_framesOf_0 24 rfl rfl
theorem dX11_framesOf_0 : decode cX11_framesOf 0 = .ok (.aload_n 0, 1) := dk_42 (dk_at dksX11_framesOf_0 0 rfl rfl)
theorem dX11_framesOf_1 : decode cX11_framesOf 1 = .ok (.iload_n 1, 1) := dk_27 (dk_at dksX11_framesOf_0 1 rfl rfl)
theorem dX11_framesOf_2 : decode cX11_framesOf 2 = .ok (.invokevirtual 535, 3) := dk_182 2 23 (dk_at dksX11_framesOf_0 2 rfl rfl)
theorem dX11_framesOf_5 : decode cX11_framesOf 5 = .ok (.ifCond .ne 5, 3) := dk_154 0 5 (dk_at dksX11_framesOf_0 5 rfl rfl)
theorem dX11_framesOf_8 : decode cX11_framesOf 8 = .ok (.iconst 0, 1) := dk_3 (dk_at dksX11_framesOf_0 8 rfl rfl)
theorem dX11_framesOf_9 : decode cX11_framesOf 9 = .ok (.ireturn, 1) := dk_172 (dk_at dksX11_framesOf_0 9 rfl rfl)
theorem dX11_framesOf_10 : decode cX11_framesOf 10 = .ok (.aload_n 0, 1) := dk_42 (dk_at dksX11_framesOf_0 10 rfl rfl)
theorem dX11_framesOf_11 : decode cX11_framesOf 11 = .ok (.iconst 0, 1) := dk_3 (dk_at dksX11_framesOf_0 11 rfl rfl)
theorem dX11_framesOf_12 : decode cX11_framesOf 12 = .ok (.putfield 507, 3) := dk_181 1 251 (dk_at dksX11_framesOf_0 12 rfl rfl)
theorem dX11_framesOf_15 : decode cX11_framesOf 15 = .ok (.aload_n 0, 1) := dk_42 (dk_at dksX11_framesOf_0 15 rfl rfl)
theorem dX11_framesOf_16 : decode cX11_framesOf 16 = .ok (.iload_n 1, 1) := dk_27 (dk_at dksX11_framesOf_0 16 rfl rfl)
theorem dX11_framesOf_17 : decode cX11_framesOf 17 = .ok (.invokevirtual 538, 3) := dk_182 2 26 (dk_at dksX11_framesOf_0 17 rfl rfl)
theorem dX11_framesOf_20 : decode cX11_framesOf 20 = .ok (.aload_n 0, 1) := dk_42 (dk_at dksX11_framesOf_0 20 rfl rfl)
theorem dX11_framesOf_21 : decode cX11_framesOf 21 = .ok (.getfield 513, 3) := dk_180 2 1 (dk_at dksX11_framesOf_0 21 rfl rfl)
theorem dX11_framesOf_24 : decode cX11_framesOf 24 = .ok (.ireturn, 1) := dk_172 (dk_at dksX11_framesOf_1 0 rfl rfl)
abbrev cX11_walks : ByteArray := prog_26_method_69_code
def yX11_walks : MethodName := ⟨RX11, "walks", "(I)V"⟩
def dkwX11_walks_9 : List UInt8 := [180, 2, 7, 2, 160, 0, 11, 42, 42, 182, 1, 146, 181, 2, 7, 177]
abbrev dktX11_walks_9 : List UInt8 := dkwX11_walks_9 ++ []
def dkwX11_walks_8 : List UInt8 := [182, 2, 20, 42, 29, 181, 2, 4, 42, 3, 181, 1, 244, 42, 3, 181, 1, 247, 167, 255, 81, 42]
abbrev dktX11_walks_8 : List UInt8 := dkwX11_walks_8 ++ dktX11_walks_9
def dkwX11_walks_7 : List UInt8 := [61, 29, 7, 42, 27, 29, 5, 96, 182, 1, 238, 96, 96, 62, 28, 153, 0, 6, 167, 255, 104, 42, 27]
abbrev dktX11_walks_7 : List UInt8 := dkwX11_walks_7 ++ dktX11_walks_8
def dkwX11_walks_6 : List UInt8 := [182, 1, 238, 5, 159, 0, 15, 42, 27, 29, 4, 96, 182, 1, 238, 6, 160, 0, 7, 4, 167, 0, 4, 3]
abbrev dktX11_walks_6 : List UInt8 := dkwX11_walks_6 ++ dktX11_walks_7
def dkwX11_walks_5 : List UInt8 := [180, 0, 126, 42, 180, 2, 1, 29, 79, 42, 89, 180, 2, 1, 4, 96, 181, 2, 1, 42, 27, 29, 4, 96]
abbrev dktX11_walks_5 : List UInt8 := dkwX11_walks_5 ++ dktX11_walks_6
def dkwX11_walks_4 : List UInt8 := [182, 2, 13, 153, 0, 12, 42, 27, 29, 182, 2, 17, 154, 0, 11, 42, 29, 181, 2, 7, 167, 255, 174, 42]
abbrev dktX11_walks_4 : List UInt8 := dkwX11_walks_4 ++ dktX11_walks_5
def dkwX11_walks_3 : List UInt8 := [167, 255, 216, 42, 27, 29, 182, 2, 10, 153, 0, 28, 42, 42, 27, 29, 4, 96, 182, 1, 238, 28]
abbrev dktX11_walks_3 : List UInt8 := dkwX11_walks_3 ++ dktX11_walks_4
def dkwX11_walks_2 : List UInt8 := [182, 1, 149, 29, 42, 182, 1, 149, 112, 100, 54, 4, 21, 4, 7, 163, 0, 11, 29, 21, 4, 96, 62]
abbrev dktX11_walks_2 : List UInt8 := dkwX11_walks_2 ++ dktX11_walks_3
def dkwX11_walks_1 : List UInt8 := [42, 2, 181, 2, 7, 29, 42, 182, 1, 146, 162, 0, 173, 42, 180, 2, 7, 2, 160, 0, 165, 42]
abbrev dktX11_walks_1 : List UInt8 := dkwX11_walks_1 ++ dktX11_walks_2
def dkwX11_walks_0 : List UInt8 := [3, 61, 8, 62, 42, 3, 181, 2, 1, 42, 8, 181, 2, 4, 42, 3, 181, 1, 244, 42, 3, 181, 1, 247]
abbrev dktX11_walks_0 : List UInt8 := dkwX11_walks_0 ++ dktX11_walks_1
theorem dksX11_walks_0 : cX11_walks.data.toList.drop 0 = dktX11_walks_0 := by decide +kernel
theorem dksX11_walks_1 : cX11_walks.data.toList.drop 24 = dktX11_walks_1 := dk_seg dksX11_walks_0 24 rfl rfl
theorem dksX11_walks_2 : cX11_walks.data.toList.drop 46 = dktX11_walks_2 := dk_seg dksX11_walks_1 22 rfl rfl
theorem dksX11_walks_3 : cX11_walks.data.toList.drop 69 = dktX11_walks_3 := dk_seg dksX11_walks_2 23 rfl rfl
theorem dksX11_walks_4 : cX11_walks.data.toList.drop 91 = dktX11_walks_4 := dk_seg dksX11_walks_3 22 rfl rfl
theorem dksX11_walks_5 : cX11_walks.data.toList.drop 115 = dktX11_walks_5 := dk_seg dksX11_walks_4 24 rfl rfl
theorem dksX11_walks_6 : cX11_walks.data.toList.drop 139 = dktX11_walks_6 := dk_seg dksX11_walks_5 24 rfl rfl
theorem dksX11_walks_7 : cX11_walks.data.toList.drop 163 = dktX11_walks_7 := dk_seg dksX11_walks_6 24 rfl rfl
theorem dksX11_walks_8 : cX11_walks.data.toList.drop 186 = dktX11_walks_8 := dk_seg dksX11_walks_7 23 rfl rfl
theorem dksX11_walks_9 : cX11_walks.data.toList.drop 208 = dktX11_walks_9 := dk_seg dksX11_walks_8 22 rfl rfl
theorem dX11_walks_0 : decode cX11_walks 0 = .ok (.iconst 0, 1) := dk_3 (dk_at dksX11_walks_0 0 rfl rfl)
theorem dX11_walks_1 : decode cX11_walks 1 = .ok (.istore_n 2, 1) := dk_61 (dk_at dksX11_walks_0 1 rfl rfl)
theorem dX11_walks_2 : decode cX11_walks 2 = .ok (.iconst 5, 1) := dk_8 (dk_at dksX11_walks_0 2 rfl rfl)
theorem dX11_walks_3 : decode cX11_walks 3 = .ok (.istore_n 3, 1) := dk_62 (dk_at dksX11_walks_0 3 rfl rfl)
theorem dX11_walks_4 : decode cX11_walks 4 = .ok (.aload_n 0, 1) := dk_42 (dk_at dksX11_walks_0 4 rfl rfl)
theorem dX11_walks_5 : decode cX11_walks 5 = .ok (.iconst 0, 1) := dk_3 (dk_at dksX11_walks_0 5 rfl rfl)
theorem dX11_walks_6 : decode cX11_walks 6 = .ok (.putfield 513, 3) := dk_181 2 1 (dk_at dksX11_walks_0 6 rfl rfl)
theorem dX11_walks_9 : decode cX11_walks 9 = .ok (.aload_n 0, 1) := dk_42 (dk_at dksX11_walks_0 9 rfl rfl)
theorem dX11_walks_10 : decode cX11_walks 10 = .ok (.iconst 5, 1) := dk_8 (dk_at dksX11_walks_0 10 rfl rfl)
theorem dX11_walks_11 : decode cX11_walks 11 = .ok (.putfield 516, 3) := dk_181 2 4 (dk_at dksX11_walks_0 11 rfl rfl)
theorem dX11_walks_14 : decode cX11_walks 14 = .ok (.aload_n 0, 1) := dk_42 (dk_at dksX11_walks_0 14 rfl rfl)
theorem dX11_walks_15 : decode cX11_walks 15 = .ok (.iconst 0, 1) := dk_3 (dk_at dksX11_walks_0 15 rfl rfl)
theorem dX11_walks_16 : decode cX11_walks 16 = .ok (.putfield 500, 3) := dk_181 1 244 (dk_at dksX11_walks_0 16 rfl rfl)
theorem dX11_walks_19 : decode cX11_walks 19 = .ok (.aload_n 0, 1) := dk_42 (dk_at dksX11_walks_0 19 rfl rfl)
theorem dX11_walks_20 : decode cX11_walks 20 = .ok (.iconst 0, 1) := dk_3 (dk_at dksX11_walks_0 20 rfl rfl)
theorem dX11_walks_21 : decode cX11_walks 21 = .ok (.putfield 503, 3) := dk_181 1 247 (dk_at dksX11_walks_0 21 rfl rfl)
theorem dX11_walks_24 : decode cX11_walks 24 = .ok (.aload_n 0, 1) := dk_42 (dk_at dksX11_walks_1 0 rfl rfl)
theorem dX11_walks_25 : decode cX11_walks 25 = .ok (.iconst (-1), 1) := dk_2 (dk_at dksX11_walks_1 1 rfl rfl)
theorem dX11_walks_26 : decode cX11_walks 26 = .ok (.putfield 519, 3) := dk_181 2 7 (dk_at dksX11_walks_1 2 rfl rfl)
theorem dX11_walks_29 : decode cX11_walks 29 = .ok (.iload_n 3, 1) := dk_29 (dk_at dksX11_walks_1 5 rfl rfl)
theorem dX11_walks_30 : decode cX11_walks 30 = .ok (.aload_n 0, 1) := dk_42 (dk_at dksX11_walks_1 6 rfl rfl)
theorem dX11_walks_31 : decode cX11_walks 31 = .ok (.invokevirtual 402, 3) := dk_182 1 146 (dk_at dksX11_walks_1 7 rfl rfl)
theorem dX11_walks_34 : decode cX11_walks 34 = .ok (.if_icmp .ge 173, 3) := dk_162 0 173 (dk_at dksX11_walks_1 10 rfl rfl)
theorem dX11_walks_37 : decode cX11_walks 37 = .ok (.aload_n 0, 1) := dk_42 (dk_at dksX11_walks_1 13 rfl rfl)
theorem dX11_walks_38 : decode cX11_walks 38 = .ok (.getfield 519, 3) := dk_180 2 7 (dk_at dksX11_walks_1 14 rfl rfl)
theorem dX11_walks_41 : decode cX11_walks 41 = .ok (.iconst (-1), 1) := dk_2 (dk_at dksX11_walks_1 17 rfl rfl)
theorem dX11_walks_42 : decode cX11_walks 42 = .ok (.if_icmp .ne 165, 3) := dk_160 0 165 (dk_at dksX11_walks_1 18 rfl rfl)
theorem dX11_walks_45 : decode cX11_walks 45 = .ok (.aload_n 0, 1) := dk_42 (dk_at dksX11_walks_1 21 rfl rfl)
theorem dX11_walks_46 : decode cX11_walks 46 = .ok (.invokevirtual 405, 3) := dk_182 1 149 (dk_at dksX11_walks_2 0 rfl rfl)
theorem dX11_walks_49 : decode cX11_walks 49 = .ok (.iload_n 3, 1) := dk_29 (dk_at dksX11_walks_2 3 rfl rfl)
theorem dX11_walks_50 : decode cX11_walks 50 = .ok (.aload_n 0, 1) := dk_42 (dk_at dksX11_walks_2 4 rfl rfl)
theorem dX11_walks_51 : decode cX11_walks 51 = .ok (.invokevirtual 405, 3) := dk_182 1 149 (dk_at dksX11_walks_2 5 rfl rfl)
theorem dX11_walks_54 : decode cX11_walks 54 = .ok (.irem, 1) := dk_112 (dk_at dksX11_walks_2 8 rfl rfl)
theorem dX11_walks_55 : decode cX11_walks 55 = .ok (.isub, 1) := dk_100 (dk_at dksX11_walks_2 9 rfl rfl)
theorem dX11_walks_56 : decode cX11_walks 56 = .ok (.istore 4, 2) := dk_54 4 (dk_at dksX11_walks_2 10 rfl rfl)
theorem dX11_walks_58 : decode cX11_walks 58 = .ok (.iload 4, 2) := dk_21 4 (dk_at dksX11_walks_2 12 rfl rfl)
theorem dX11_walks_60 : decode cX11_walks 60 = .ok (.iconst 4, 1) := dk_7 (dk_at dksX11_walks_2 14 rfl rfl)
theorem dX11_walks_61 : decode cX11_walks 61 = .ok (.if_icmp .gt 11, 3) := dk_163 0 11 (dk_at dksX11_walks_2 15 rfl rfl)
theorem dX11_walks_64 : decode cX11_walks 64 = .ok (.iload_n 3, 1) := dk_29 (dk_at dksX11_walks_2 18 rfl rfl)
theorem dX11_walks_65 : decode cX11_walks 65 = .ok (.iload 4, 2) := dk_21 4 (dk_at dksX11_walks_2 19 rfl rfl)
theorem dX11_walks_67 : decode cX11_walks 67 = .ok (.iadd, 1) := dk_96 (dk_at dksX11_walks_2 21 rfl rfl)
theorem dX11_walks_68 : decode cX11_walks 68 = .ok (.istore_n 3, 1) := dk_62 (dk_at dksX11_walks_2 22 rfl rfl)
theorem dX11_walks_69 : decode cX11_walks 69 = .ok (.goto (-40), 3) := dk_167 255 216 (dk_at dksX11_walks_3 0 rfl rfl)
theorem dX11_walks_72 : decode cX11_walks 72 = .ok (.aload_n 0, 1) := dk_42 (dk_at dksX11_walks_3 3 rfl rfl)
theorem dX11_walks_73 : decode cX11_walks 73 = .ok (.iload_n 1, 1) := dk_27 (dk_at dksX11_walks_3 4 rfl rfl)
theorem dX11_walks_74 : decode cX11_walks 74 = .ok (.iload_n 3, 1) := dk_29 (dk_at dksX11_walks_3 5 rfl rfl)
theorem dX11_walks_75 : decode cX11_walks 75 = .ok (.invokevirtual 522, 3) := dk_182 2 10 (dk_at dksX11_walks_3 6 rfl rfl)
theorem dX11_walks_78 : decode cX11_walks 78 = .ok (.ifCond .eq 28, 3) := dk_153 0 28 (dk_at dksX11_walks_3 9 rfl rfl)
theorem dX11_walks_81 : decode cX11_walks 81 = .ok (.aload_n 0, 1) := dk_42 (dk_at dksX11_walks_3 12 rfl rfl)
theorem dX11_walks_82 : decode cX11_walks 82 = .ok (.aload_n 0, 1) := dk_42 (dk_at dksX11_walks_3 13 rfl rfl)
theorem dX11_walks_83 : decode cX11_walks 83 = .ok (.iload_n 1, 1) := dk_27 (dk_at dksX11_walks_3 14 rfl rfl)
theorem dX11_walks_84 : decode cX11_walks 84 = .ok (.iload_n 3, 1) := dk_29 (dk_at dksX11_walks_3 15 rfl rfl)
theorem dX11_walks_85 : decode cX11_walks 85 = .ok (.iconst 1, 1) := dk_4 (dk_at dksX11_walks_3 16 rfl rfl)
theorem dX11_walks_86 : decode cX11_walks 86 = .ok (.iadd, 1) := dk_96 (dk_at dksX11_walks_3 17 rfl rfl)
theorem dX11_walks_87 : decode cX11_walks 87 = .ok (.invokevirtual 494, 3) := dk_182 1 238 (dk_at dksX11_walks_3 18 rfl rfl)
theorem dX11_walks_90 : decode cX11_walks 90 = .ok (.iload_n 2, 1) := dk_28 (dk_at dksX11_walks_3 21 rfl rfl)
theorem dX11_walks_91 : decode cX11_walks 91 = .ok (.invokevirtual 525, 3) := dk_182 2 13 (dk_at dksX11_walks_4 0 rfl rfl)
theorem dX11_walks_94 : decode cX11_walks 94 = .ok (.ifCond .eq 12, 3) := dk_153 0 12 (dk_at dksX11_walks_4 3 rfl rfl)
theorem dX11_walks_97 : decode cX11_walks 97 = .ok (.aload_n 0, 1) := dk_42 (dk_at dksX11_walks_4 6 rfl rfl)
theorem dX11_walks_98 : decode cX11_walks 98 = .ok (.iload_n 1, 1) := dk_27 (dk_at dksX11_walks_4 7 rfl rfl)
theorem dX11_walks_99 : decode cX11_walks 99 = .ok (.iload_n 3, 1) := dk_29 (dk_at dksX11_walks_4 8 rfl rfl)
theorem dX11_walks_100 : decode cX11_walks 100 = .ok (.invokevirtual 529, 3) := dk_182 2 17 (dk_at dksX11_walks_4 9 rfl rfl)
theorem dX11_walks_103 : decode cX11_walks 103 = .ok (.ifCond .ne 11, 3) := dk_154 0 11 (dk_at dksX11_walks_4 12 rfl rfl)
theorem dX11_walks_106 : decode cX11_walks 106 = .ok (.aload_n 0, 1) := dk_42 (dk_at dksX11_walks_4 15 rfl rfl)
theorem dX11_walks_107 : decode cX11_walks 107 = .ok (.iload_n 3, 1) := dk_29 (dk_at dksX11_walks_4 16 rfl rfl)
theorem dX11_walks_108 : decode cX11_walks 108 = .ok (.putfield 519, 3) := dk_181 2 7 (dk_at dksX11_walks_4 17 rfl rfl)
theorem dX11_walks_111 : decode cX11_walks 111 = .ok (.goto (-82), 3) := dk_167 255 174 (dk_at dksX11_walks_4 20 rfl rfl)
theorem dX11_walks_114 : decode cX11_walks 114 = .ok (.aload_n 0, 1) := dk_42 (dk_at dksX11_walks_4 23 rfl rfl)
theorem dX11_walks_115 : decode cX11_walks 115 = .ok (.getfield 126, 3) := dk_180 0 126 (dk_at dksX11_walks_5 0 rfl rfl)
theorem dX11_walks_118 : decode cX11_walks 118 = .ok (.aload_n 0, 1) := dk_42 (dk_at dksX11_walks_5 3 rfl rfl)
theorem dX11_walks_119 : decode cX11_walks 119 = .ok (.getfield 513, 3) := dk_180 2 1 (dk_at dksX11_walks_5 4 rfl rfl)
theorem dX11_walks_122 : decode cX11_walks 122 = .ok (.iload_n 3, 1) := dk_29 (dk_at dksX11_walks_5 7 rfl rfl)
theorem dX11_walks_123 : decode cX11_walks 123 = .ok (.iastore, 1) := dk_79 (dk_at dksX11_walks_5 8 rfl rfl)
theorem dX11_walks_124 : decode cX11_walks 124 = .ok (.aload_n 0, 1) := dk_42 (dk_at dksX11_walks_5 9 rfl rfl)
theorem dX11_walks_125 : decode cX11_walks 125 = .ok (.dup, 1) := dk_89 (dk_at dksX11_walks_5 10 rfl rfl)
theorem dX11_walks_126 : decode cX11_walks 126 = .ok (.getfield 513, 3) := dk_180 2 1 (dk_at dksX11_walks_5 11 rfl rfl)
theorem dX11_walks_129 : decode cX11_walks 129 = .ok (.iconst 1, 1) := dk_4 (dk_at dksX11_walks_5 14 rfl rfl)
theorem dX11_walks_130 : decode cX11_walks 130 = .ok (.iadd, 1) := dk_96 (dk_at dksX11_walks_5 15 rfl rfl)
theorem dX11_walks_131 : decode cX11_walks 131 = .ok (.putfield 513, 3) := dk_181 2 1 (dk_at dksX11_walks_5 16 rfl rfl)
theorem dX11_walks_134 : decode cX11_walks 134 = .ok (.aload_n 0, 1) := dk_42 (dk_at dksX11_walks_5 19 rfl rfl)
theorem dX11_walks_135 : decode cX11_walks 135 = .ok (.iload_n 1, 1) := dk_27 (dk_at dksX11_walks_5 20 rfl rfl)
theorem dX11_walks_136 : decode cX11_walks 136 = .ok (.iload_n 3, 1) := dk_29 (dk_at dksX11_walks_5 21 rfl rfl)
theorem dX11_walks_137 : decode cX11_walks 137 = .ok (.iconst 1, 1) := dk_4 (dk_at dksX11_walks_5 22 rfl rfl)
theorem dX11_walks_138 : decode cX11_walks 138 = .ok (.iadd, 1) := dk_96 (dk_at dksX11_walks_5 23 rfl rfl)
theorem dX11_walks_139 : decode cX11_walks 139 = .ok (.invokevirtual 494, 3) := dk_182 1 238 (dk_at dksX11_walks_6 0 rfl rfl)
theorem dX11_walks_142 : decode cX11_walks 142 = .ok (.iconst 2, 1) := dk_5 (dk_at dksX11_walks_6 3 rfl rfl)
theorem dX11_walks_143 : decode cX11_walks 143 = .ok (.if_icmp .eq 15, 3) := dk_159 0 15 (dk_at dksX11_walks_6 4 rfl rfl)
theorem dX11_walks_146 : decode cX11_walks 146 = .ok (.aload_n 0, 1) := dk_42 (dk_at dksX11_walks_6 7 rfl rfl)
theorem dX11_walks_147 : decode cX11_walks 147 = .ok (.iload_n 1, 1) := dk_27 (dk_at dksX11_walks_6 8 rfl rfl)
theorem dX11_walks_148 : decode cX11_walks 148 = .ok (.iload_n 3, 1) := dk_29 (dk_at dksX11_walks_6 9 rfl rfl)
theorem dX11_walks_149 : decode cX11_walks 149 = .ok (.iconst 1, 1) := dk_4 (dk_at dksX11_walks_6 10 rfl rfl)
theorem dX11_walks_150 : decode cX11_walks 150 = .ok (.iadd, 1) := dk_96 (dk_at dksX11_walks_6 11 rfl rfl)
theorem dX11_walks_151 : decode cX11_walks 151 = .ok (.invokevirtual 494, 3) := dk_182 1 238 (dk_at dksX11_walks_6 12 rfl rfl)
theorem dX11_walks_154 : decode cX11_walks 154 = .ok (.iconst 3, 1) := dk_6 (dk_at dksX11_walks_6 15 rfl rfl)
theorem dX11_walks_155 : decode cX11_walks 155 = .ok (.if_icmp .ne 7, 3) := dk_160 0 7 (dk_at dksX11_walks_6 16 rfl rfl)
theorem dX11_walks_158 : decode cX11_walks 158 = .ok (.iconst 1, 1) := dk_4 (dk_at dksX11_walks_6 19 rfl rfl)
theorem dX11_walks_159 : decode cX11_walks 159 = .ok (.goto 4, 3) := dk_167 0 4 (dk_at dksX11_walks_6 20 rfl rfl)
theorem dX11_walks_162 : decode cX11_walks 162 = .ok (.iconst 0, 1) := dk_3 (dk_at dksX11_walks_6 23 rfl rfl)
theorem dX11_walks_163 : decode cX11_walks 163 = .ok (.istore_n 2, 1) := dk_61 (dk_at dksX11_walks_7 0 rfl rfl)
theorem dX11_walks_164 : decode cX11_walks 164 = .ok (.iload_n 3, 1) := dk_29 (dk_at dksX11_walks_7 1 rfl rfl)
theorem dX11_walks_165 : decode cX11_walks 165 = .ok (.iconst 4, 1) := dk_7 (dk_at dksX11_walks_7 2 rfl rfl)
theorem dX11_walks_166 : decode cX11_walks 166 = .ok (.aload_n 0, 1) := dk_42 (dk_at dksX11_walks_7 3 rfl rfl)
theorem dX11_walks_167 : decode cX11_walks 167 = .ok (.iload_n 1, 1) := dk_27 (dk_at dksX11_walks_7 4 rfl rfl)
theorem dX11_walks_168 : decode cX11_walks 168 = .ok (.iload_n 3, 1) := dk_29 (dk_at dksX11_walks_7 5 rfl rfl)
theorem dX11_walks_169 : decode cX11_walks 169 = .ok (.iconst 2, 1) := dk_5 (dk_at dksX11_walks_7 6 rfl rfl)
theorem dX11_walks_170 : decode cX11_walks 170 = .ok (.iadd, 1) := dk_96 (dk_at dksX11_walks_7 7 rfl rfl)
theorem dX11_walks_171 : decode cX11_walks 171 = .ok (.invokevirtual 494, 3) := dk_182 1 238 (dk_at dksX11_walks_7 8 rfl rfl)
theorem dX11_walks_174 : decode cX11_walks 174 = .ok (.iadd, 1) := dk_96 (dk_at dksX11_walks_7 11 rfl rfl)
theorem dX11_walks_175 : decode cX11_walks 175 = .ok (.iadd, 1) := dk_96 (dk_at dksX11_walks_7 12 rfl rfl)
theorem dX11_walks_176 : decode cX11_walks 176 = .ok (.istore_n 3, 1) := dk_62 (dk_at dksX11_walks_7 13 rfl rfl)
theorem dX11_walks_177 : decode cX11_walks 177 = .ok (.iload_n 2, 1) := dk_28 (dk_at dksX11_walks_7 14 rfl rfl)
theorem dX11_walks_178 : decode cX11_walks 178 = .ok (.ifCond .eq 6, 3) := dk_153 0 6 (dk_at dksX11_walks_7 15 rfl rfl)
theorem dX11_walks_181 : decode cX11_walks 181 = .ok (.goto (-152), 3) := dk_167 255 104 (dk_at dksX11_walks_7 18 rfl rfl)
theorem dX11_walks_184 : decode cX11_walks 184 = .ok (.aload_n 0, 1) := dk_42 (dk_at dksX11_walks_7 21 rfl rfl)
theorem dX11_walks_185 : decode cX11_walks 185 = .ok (.iload_n 1, 1) := dk_27 (dk_at dksX11_walks_7 22 rfl rfl)
theorem dX11_walks_186 : decode cX11_walks 186 = .ok (.invokevirtual 532, 3) := dk_182 2 20 (dk_at dksX11_walks_8 0 rfl rfl)
theorem dX11_walks_189 : decode cX11_walks 189 = .ok (.aload_n 0, 1) := dk_42 (dk_at dksX11_walks_8 3 rfl rfl)
theorem dX11_walks_190 : decode cX11_walks 190 = .ok (.iload_n 3, 1) := dk_29 (dk_at dksX11_walks_8 4 rfl rfl)
theorem dX11_walks_191 : decode cX11_walks 191 = .ok (.putfield 516, 3) := dk_181 2 4 (dk_at dksX11_walks_8 5 rfl rfl)
theorem dX11_walks_194 : decode cX11_walks 194 = .ok (.aload_n 0, 1) := dk_42 (dk_at dksX11_walks_8 8 rfl rfl)
theorem dX11_walks_195 : decode cX11_walks 195 = .ok (.iconst 0, 1) := dk_3 (dk_at dksX11_walks_8 9 rfl rfl)
theorem dX11_walks_196 : decode cX11_walks 196 = .ok (.putfield 500, 3) := dk_181 1 244 (dk_at dksX11_walks_8 10 rfl rfl)
theorem dX11_walks_199 : decode cX11_walks 199 = .ok (.aload_n 0, 1) := dk_42 (dk_at dksX11_walks_8 13 rfl rfl)
theorem dX11_walks_200 : decode cX11_walks 200 = .ok (.iconst 0, 1) := dk_3 (dk_at dksX11_walks_8 14 rfl rfl)
theorem dX11_walks_201 : decode cX11_walks 201 = .ok (.putfield 503, 3) := dk_181 1 247 (dk_at dksX11_walks_8 15 rfl rfl)
theorem dX11_walks_204 : decode cX11_walks 204 = .ok (.goto (-175), 3) := dk_167 255 81 (dk_at dksX11_walks_8 18 rfl rfl)
theorem dX11_walks_207 : decode cX11_walks 207 = .ok (.aload_n 0, 1) := dk_42 (dk_at dksX11_walks_8 21 rfl rfl)
theorem dX11_walks_208 : decode cX11_walks 208 = .ok (.getfield 519, 3) := dk_180 2 7 (dk_at dksX11_walks_9 0 rfl rfl)
theorem dX11_walks_211 : decode cX11_walks 211 = .ok (.iconst (-1), 1) := dk_2 (dk_at dksX11_walks_9 3 rfl rfl)
theorem dX11_walks_212 : decode cX11_walks 212 = .ok (.if_icmp .ne 11, 3) := dk_160 0 11 (dk_at dksX11_walks_9 4 rfl rfl)
theorem dX11_walks_215 : decode cX11_walks 215 = .ok (.aload_n 0, 1) := dk_42 (dk_at dksX11_walks_9 7 rfl rfl)
theorem dX11_walks_216 : decode cX11_walks 216 = .ok (.aload_n 0, 1) := dk_42 (dk_at dksX11_walks_9 8 rfl rfl)
theorem dX11_walks_217 : decode cX11_walks 217 = .ok (.invokevirtual 402, 3) := dk_182 1 146 (dk_at dksX11_walks_9 9 rfl rfl)
theorem dX11_walks_220 : decode cX11_walks 220 = .ok (.putfield 519, 3) := dk_181 2 7 (dk_at dksX11_walks_9 12 rfl rfl)
theorem dX11_walks_223 : decode cX11_walks 223 = .ok (.return_, 1) := dk_177 (dk_at dksX11_walks_9 15 rfl rfl)
abbrev cX11_isFrame : ByteArray := prog_26_method_65_code
def yX11_isFrame : MethodName := ⟨RX11, "isFrame", "(II)Z"⟩
def dkwX11_isFrame_5 : List UInt8 := [182, 1, 238, 160, 0, 7, 4, 167, 0, 4, 3, 172]
abbrev dktX11_isFrame_5 : List UInt8 := dkwX11_isFrame_5 ++ []
def dkwX11_isFrame_4 : List UInt8 := [21, 6, 96, 182, 1, 238, 184, 1, 128, 54, 5, 132, 6, 1, 167, 255, 228, 21, 5, 42, 27, 28]
abbrev dktX11_isFrame_4 : List UInt8 := dkwX11_isFrame_4 ++ dktX11_isFrame_5
def dkwX11_isFrame_3 : List UInt8 := [3, 172, 16, 7, 54, 5, 4, 54, 6, 21, 6, 7, 21, 4, 96, 162, 0, 25, 21, 5, 42, 27, 28]
abbrev dktX11_isFrame_3 : List UInt8 := dkwX11_isFrame_3 ++ dktX11_isFrame_4
def dkwX11_isFrame_2 : List UInt8 := [29, 163, 0, 23, 42, 27, 28, 6, 96, 182, 1, 238, 42, 27, 182, 1, 241, 17, 0, 255, 126, 159, 0, 5]
abbrev dktX11_isFrame_2 : List UInt8 := dkwX11_isFrame_2 ++ dktX11_isFrame_3
def dkwX11_isFrame_1 : List UInt8 := [163, 0, 5, 3, 172, 42, 27, 28, 5, 96, 182, 1, 238, 54, 4, 21, 4, 153, 0, 31, 7, 21, 4, 96]
abbrev dktX11_isFrame_1 : List UInt8 := dkwX11_isFrame_1 ++ dktX11_isFrame_2
def dkwX11_isFrame_0 : List UInt8 := [42, 182, 1, 149, 28, 42, 182, 1, 149, 112, 100, 62, 28, 42, 182, 1, 146, 162, 0, 8, 29, 7]
abbrev dktX11_isFrame_0 : List UInt8 := dkwX11_isFrame_0 ++ dktX11_isFrame_1
theorem dksX11_isFrame_0 : cX11_isFrame.data.toList.drop 0 = dktX11_isFrame_0 := by decide +kernel
theorem dksX11_isFrame_1 : cX11_isFrame.data.toList.drop 22 = dktX11_isFrame_1 := dk_seg dksX11_isFrame_0 22 rfl rfl
theorem dksX11_isFrame_2 : cX11_isFrame.data.toList.drop 46 = dktX11_isFrame_2 := dk_seg dksX11_isFrame_1 24 rfl rfl
theorem dksX11_isFrame_3 : cX11_isFrame.data.toList.drop 70 = dktX11_isFrame_3 := dk_seg dksX11_isFrame_2 24 rfl rfl
theorem dksX11_isFrame_4 : cX11_isFrame.data.toList.drop 93 = dktX11_isFrame_4 := dk_seg dksX11_isFrame_3 23 rfl rfl
theorem dksX11_isFrame_5 : cX11_isFrame.data.toList.drop 115 = dktX11_isFrame_5 := dk_seg dksX11_isFrame_4 22 rfl rfl
theorem dX11_isFrame_0 : decode cX11_isFrame 0 = .ok (.aload_n 0, 1) := dk_42 (dk_at dksX11_isFrame_0 0 rfl rfl)
theorem dX11_isFrame_1 : decode cX11_isFrame 1 = .ok (.invokevirtual 405, 3) := dk_182 1 149 (dk_at dksX11_isFrame_0 1 rfl rfl)
theorem dX11_isFrame_4 : decode cX11_isFrame 4 = .ok (.iload_n 2, 1) := dk_28 (dk_at dksX11_isFrame_0 4 rfl rfl)
theorem dX11_isFrame_5 : decode cX11_isFrame 5 = .ok (.aload_n 0, 1) := dk_42 (dk_at dksX11_isFrame_0 5 rfl rfl)
theorem dX11_isFrame_6 : decode cX11_isFrame 6 = .ok (.invokevirtual 405, 3) := dk_182 1 149 (dk_at dksX11_isFrame_0 6 rfl rfl)
theorem dX11_isFrame_9 : decode cX11_isFrame 9 = .ok (.irem, 1) := dk_112 (dk_at dksX11_isFrame_0 9 rfl rfl)
theorem dX11_isFrame_10 : decode cX11_isFrame 10 = .ok (.isub, 1) := dk_100 (dk_at dksX11_isFrame_0 10 rfl rfl)
theorem dX11_isFrame_11 : decode cX11_isFrame 11 = .ok (.istore_n 3, 1) := dk_62 (dk_at dksX11_isFrame_0 11 rfl rfl)
theorem dX11_isFrame_12 : decode cX11_isFrame 12 = .ok (.iload_n 2, 1) := dk_28 (dk_at dksX11_isFrame_0 12 rfl rfl)
theorem dX11_isFrame_13 : decode cX11_isFrame 13 = .ok (.aload_n 0, 1) := dk_42 (dk_at dksX11_isFrame_0 13 rfl rfl)
theorem dX11_isFrame_14 : decode cX11_isFrame 14 = .ok (.invokevirtual 402, 3) := dk_182 1 146 (dk_at dksX11_isFrame_0 14 rfl rfl)
theorem dX11_isFrame_17 : decode cX11_isFrame 17 = .ok (.if_icmp .ge 8, 3) := dk_162 0 8 (dk_at dksX11_isFrame_0 17 rfl rfl)
theorem dX11_isFrame_20 : decode cX11_isFrame 20 = .ok (.iload_n 3, 1) := dk_29 (dk_at dksX11_isFrame_0 20 rfl rfl)
theorem dX11_isFrame_21 : decode cX11_isFrame 21 = .ok (.iconst 4, 1) := dk_7 (dk_at dksX11_isFrame_0 21 rfl rfl)
theorem dX11_isFrame_22 : decode cX11_isFrame 22 = .ok (.if_icmp .gt 5, 3) := dk_163 0 5 (dk_at dksX11_isFrame_1 0 rfl rfl)
theorem dX11_isFrame_25 : decode cX11_isFrame 25 = .ok (.iconst 0, 1) := dk_3 (dk_at dksX11_isFrame_1 3 rfl rfl)
theorem dX11_isFrame_26 : decode cX11_isFrame 26 = .ok (.ireturn, 1) := dk_172 (dk_at dksX11_isFrame_1 4 rfl rfl)
theorem dX11_isFrame_27 : decode cX11_isFrame 27 = .ok (.aload_n 0, 1) := dk_42 (dk_at dksX11_isFrame_1 5 rfl rfl)
theorem dX11_isFrame_28 : decode cX11_isFrame 28 = .ok (.iload_n 1, 1) := dk_27 (dk_at dksX11_isFrame_1 6 rfl rfl)
theorem dX11_isFrame_29 : decode cX11_isFrame 29 = .ok (.iload_n 2, 1) := dk_28 (dk_at dksX11_isFrame_1 7 rfl rfl)
theorem dX11_isFrame_30 : decode cX11_isFrame 30 = .ok (.iconst 2, 1) := dk_5 (dk_at dksX11_isFrame_1 8 rfl rfl)
theorem dX11_isFrame_31 : decode cX11_isFrame 31 = .ok (.iadd, 1) := dk_96 (dk_at dksX11_isFrame_1 9 rfl rfl)
theorem dX11_isFrame_32 : decode cX11_isFrame 32 = .ok (.invokevirtual 494, 3) := dk_182 1 238 (dk_at dksX11_isFrame_1 10 rfl rfl)
theorem dX11_isFrame_35 : decode cX11_isFrame 35 = .ok (.istore 4, 2) := dk_54 4 (dk_at dksX11_isFrame_1 13 rfl rfl)
theorem dX11_isFrame_37 : decode cX11_isFrame 37 = .ok (.iload 4, 2) := dk_21 4 (dk_at dksX11_isFrame_1 15 rfl rfl)
theorem dX11_isFrame_39 : decode cX11_isFrame 39 = .ok (.ifCond .eq 31, 3) := dk_153 0 31 (dk_at dksX11_isFrame_1 17 rfl rfl)
theorem dX11_isFrame_42 : decode cX11_isFrame 42 = .ok (.iconst 4, 1) := dk_7 (dk_at dksX11_isFrame_1 20 rfl rfl)
theorem dX11_isFrame_43 : decode cX11_isFrame 43 = .ok (.iload 4, 2) := dk_21 4 (dk_at dksX11_isFrame_1 21 rfl rfl)
theorem dX11_isFrame_45 : decode cX11_isFrame 45 = .ok (.iadd, 1) := dk_96 (dk_at dksX11_isFrame_1 23 rfl rfl)
theorem dX11_isFrame_46 : decode cX11_isFrame 46 = .ok (.iload_n 3, 1) := dk_29 (dk_at dksX11_isFrame_2 0 rfl rfl)
theorem dX11_isFrame_47 : decode cX11_isFrame 47 = .ok (.if_icmp .gt 23, 3) := dk_163 0 23 (dk_at dksX11_isFrame_2 1 rfl rfl)
theorem dX11_isFrame_50 : decode cX11_isFrame 50 = .ok (.aload_n 0, 1) := dk_42 (dk_at dksX11_isFrame_2 4 rfl rfl)
theorem dX11_isFrame_51 : decode cX11_isFrame 51 = .ok (.iload_n 1, 1) := dk_27 (dk_at dksX11_isFrame_2 5 rfl rfl)
theorem dX11_isFrame_52 : decode cX11_isFrame 52 = .ok (.iload_n 2, 1) := dk_28 (dk_at dksX11_isFrame_2 6 rfl rfl)
theorem dX11_isFrame_53 : decode cX11_isFrame 53 = .ok (.iconst 3, 1) := dk_6 (dk_at dksX11_isFrame_2 7 rfl rfl)
theorem dX11_isFrame_54 : decode cX11_isFrame 54 = .ok (.iadd, 1) := dk_96 (dk_at dksX11_isFrame_2 8 rfl rfl)
theorem dX11_isFrame_55 : decode cX11_isFrame 55 = .ok (.invokevirtual 494, 3) := dk_182 1 238 (dk_at dksX11_isFrame_2 9 rfl rfl)
theorem dX11_isFrame_58 : decode cX11_isFrame 58 = .ok (.aload_n 0, 1) := dk_42 (dk_at dksX11_isFrame_2 12 rfl rfl)
theorem dX11_isFrame_59 : decode cX11_isFrame 59 = .ok (.iload_n 1, 1) := dk_27 (dk_at dksX11_isFrame_2 13 rfl rfl)
theorem dX11_isFrame_60 : decode cX11_isFrame 60 = .ok (.invokevirtual 497, 3) := dk_182 1 241 (dk_at dksX11_isFrame_2 14 rfl rfl)
theorem dX11_isFrame_63 : decode cX11_isFrame 63 = .ok (.sipush 255, 3) := dk_17 0 255 (dk_at dksX11_isFrame_2 17 rfl rfl)
theorem dX11_isFrame_66 : decode cX11_isFrame 66 = .ok (.iand, 1) := dk_126 (dk_at dksX11_isFrame_2 20 rfl rfl)
theorem dX11_isFrame_67 : decode cX11_isFrame 67 = .ok (.if_icmp .eq 5, 3) := dk_159 0 5 (dk_at dksX11_isFrame_2 21 rfl rfl)
theorem dX11_isFrame_70 : decode cX11_isFrame 70 = .ok (.iconst 0, 1) := dk_3 (dk_at dksX11_isFrame_3 0 rfl rfl)
theorem dX11_isFrame_71 : decode cX11_isFrame 71 = .ok (.ireturn, 1) := dk_172 (dk_at dksX11_isFrame_3 1 rfl rfl)
theorem dX11_isFrame_72 : decode cX11_isFrame 72 = .ok (.bipush 7, 2) := dk_16 7 (dk_at dksX11_isFrame_3 2 rfl rfl)
theorem dX11_isFrame_74 : decode cX11_isFrame 74 = .ok (.istore 5, 2) := dk_54 5 (dk_at dksX11_isFrame_3 4 rfl rfl)
theorem dX11_isFrame_76 : decode cX11_isFrame 76 = .ok (.iconst 1, 1) := dk_4 (dk_at dksX11_isFrame_3 6 rfl rfl)
theorem dX11_isFrame_77 : decode cX11_isFrame 77 = .ok (.istore 6, 2) := dk_54 6 (dk_at dksX11_isFrame_3 7 rfl rfl)
theorem dX11_isFrame_79 : decode cX11_isFrame 79 = .ok (.iload 6, 2) := dk_21 6 (dk_at dksX11_isFrame_3 9 rfl rfl)
theorem dX11_isFrame_81 : decode cX11_isFrame 81 = .ok (.iconst 4, 1) := dk_7 (dk_at dksX11_isFrame_3 11 rfl rfl)
theorem dX11_isFrame_82 : decode cX11_isFrame 82 = .ok (.iload 4, 2) := dk_21 4 (dk_at dksX11_isFrame_3 12 rfl rfl)
theorem dX11_isFrame_84 : decode cX11_isFrame 84 = .ok (.iadd, 1) := dk_96 (dk_at dksX11_isFrame_3 14 rfl rfl)
theorem dX11_isFrame_85 : decode cX11_isFrame 85 = .ok (.if_icmp .ge 25, 3) := dk_162 0 25 (dk_at dksX11_isFrame_3 15 rfl rfl)
theorem dX11_isFrame_88 : decode cX11_isFrame 88 = .ok (.iload 5, 2) := dk_21 5 (dk_at dksX11_isFrame_3 18 rfl rfl)
theorem dX11_isFrame_90 : decode cX11_isFrame 90 = .ok (.aload_n 0, 1) := dk_42 (dk_at dksX11_isFrame_3 20 rfl rfl)
theorem dX11_isFrame_91 : decode cX11_isFrame 91 = .ok (.iload_n 1, 1) := dk_27 (dk_at dksX11_isFrame_3 21 rfl rfl)
theorem dX11_isFrame_92 : decode cX11_isFrame 92 = .ok (.iload_n 2, 1) := dk_28 (dk_at dksX11_isFrame_3 22 rfl rfl)
theorem dX11_isFrame_93 : decode cX11_isFrame 93 = .ok (.iload 6, 2) := dk_21 6 (dk_at dksX11_isFrame_4 0 rfl rfl)
theorem dX11_isFrame_95 : decode cX11_isFrame 95 = .ok (.iadd, 1) := dk_96 (dk_at dksX11_isFrame_4 2 rfl rfl)
theorem dX11_isFrame_96 : decode cX11_isFrame 96 = .ok (.invokevirtual 494, 3) := dk_182 1 238 (dk_at dksX11_isFrame_4 3 rfl rfl)
theorem dX11_isFrame_99 : decode cX11_isFrame 99 = .ok (.invokestatic 384, 3) := dk_184 1 128 (dk_at dksX11_isFrame_4 6 rfl rfl)
theorem dX11_isFrame_102 : decode cX11_isFrame 102 = .ok (.istore 5, 2) := dk_54 5 (dk_at dksX11_isFrame_4 9 rfl rfl)
theorem dX11_isFrame_104 : decode cX11_isFrame 104 = .ok (.iinc 6 1, 3) := dk_132 6 1 (dk_at dksX11_isFrame_4 11 rfl rfl)
theorem dX11_isFrame_107 : decode cX11_isFrame 107 = .ok (.goto (-28), 3) := dk_167 255 228 (dk_at dksX11_isFrame_4 14 rfl rfl)
theorem dX11_isFrame_110 : decode cX11_isFrame 110 = .ok (.iload 5, 2) := dk_21 5 (dk_at dksX11_isFrame_4 17 rfl rfl)
theorem dX11_isFrame_112 : decode cX11_isFrame 112 = .ok (.aload_n 0, 1) := dk_42 (dk_at dksX11_isFrame_4 19 rfl rfl)
theorem dX11_isFrame_113 : decode cX11_isFrame 113 = .ok (.iload_n 1, 1) := dk_27 (dk_at dksX11_isFrame_4 20 rfl rfl)
theorem dX11_isFrame_114 : decode cX11_isFrame 114 = .ok (.iload_n 2, 1) := dk_28 (dk_at dksX11_isFrame_4 21 rfl rfl)
theorem dX11_isFrame_115 : decode cX11_isFrame 115 = .ok (.invokevirtual 494, 3) := dk_182 1 238 (dk_at dksX11_isFrame_5 0 rfl rfl)
theorem dX11_isFrame_118 : decode cX11_isFrame 118 = .ok (.if_icmp .ne 7, 3) := dk_160 0 7 (dk_at dksX11_isFrame_5 3 rfl rfl)
theorem dX11_isFrame_121 : decode cX11_isFrame 121 = .ok (.iconst 1, 1) := dk_4 (dk_at dksX11_isFrame_5 6 rfl rfl)
theorem dX11_isFrame_122 : decode cX11_isFrame 122 = .ok (.goto 4, 3) := dk_167 0 4 (dk_at dksX11_isFrame_5 7 rfl rfl)
theorem dX11_isFrame_125 : decode cX11_isFrame 125 = .ok (.iconst 0, 1) := dk_3 (dk_at dksX11_isFrame_5 10 rfl rfl)
theorem dX11_isFrame_126 : decode cX11_isFrame 126 = .ok (.ireturn, 1) := dk_172 (dk_at dksX11_isFrame_5 11 rfl rfl)
abbrev cX11_canBe : ByteArray := prog_26_method_66_code
def yX11_canBe : MethodName := ⟨RX11, "canBe", "(IZ)Z"⟩
def dkwX11_canBe_1 : List UInt8 := [159, 0, 8, 27, 5, 160, 0, 7, 4, 167, 0, 4, 3, 172]
abbrev dktX11_canBe_1 : List UInt8 := dkwX11_canBe_1 ++ []
def dkwX11_canBe_0 : List UInt8 := [28, 153, 0, 21, 27, 6, 159, 0, 8, 27, 7, 160, 0, 7, 4, 167, 0, 22, 3, 167, 0, 18, 27, 4]
abbrev dktX11_canBe_0 : List UInt8 := dkwX11_canBe_0 ++ dktX11_canBe_1
theorem dksX11_canBe_0 : cX11_canBe.data.toList.drop 0 = dktX11_canBe_0 := by decide +kernel
theorem dksX11_canBe_1 : cX11_canBe.data.toList.drop 24 = dktX11_canBe_1 := dk_seg dksX11_canBe_0 24 rfl rfl
theorem dX11_canBe_0 : decode cX11_canBe 0 = .ok (.iload_n 2, 1) := dk_28 (dk_at dksX11_canBe_0 0 rfl rfl)
theorem dX11_canBe_1 : decode cX11_canBe 1 = .ok (.ifCond .eq 21, 3) := dk_153 0 21 (dk_at dksX11_canBe_0 1 rfl rfl)
theorem dX11_canBe_4 : decode cX11_canBe 4 = .ok (.iload_n 1, 1) := dk_27 (dk_at dksX11_canBe_0 4 rfl rfl)
theorem dX11_canBe_5 : decode cX11_canBe 5 = .ok (.iconst 3, 1) := dk_6 (dk_at dksX11_canBe_0 5 rfl rfl)
theorem dX11_canBe_6 : decode cX11_canBe 6 = .ok (.if_icmp .eq 8, 3) := dk_159 0 8 (dk_at dksX11_canBe_0 6 rfl rfl)
theorem dX11_canBe_9 : decode cX11_canBe 9 = .ok (.iload_n 1, 1) := dk_27 (dk_at dksX11_canBe_0 9 rfl rfl)
theorem dX11_canBe_10 : decode cX11_canBe 10 = .ok (.iconst 4, 1) := dk_7 (dk_at dksX11_canBe_0 10 rfl rfl)
theorem dX11_canBe_11 : decode cX11_canBe 11 = .ok (.if_icmp .ne 7, 3) := dk_160 0 7 (dk_at dksX11_canBe_0 11 rfl rfl)
theorem dX11_canBe_14 : decode cX11_canBe 14 = .ok (.iconst 1, 1) := dk_4 (dk_at dksX11_canBe_0 14 rfl rfl)
theorem dX11_canBe_15 : decode cX11_canBe 15 = .ok (.goto 22, 3) := dk_167 0 22 (dk_at dksX11_canBe_0 15 rfl rfl)
theorem dX11_canBe_18 : decode cX11_canBe 18 = .ok (.iconst 0, 1) := dk_3 (dk_at dksX11_canBe_0 18 rfl rfl)
theorem dX11_canBe_19 : decode cX11_canBe 19 = .ok (.goto 18, 3) := dk_167 0 18 (dk_at dksX11_canBe_0 19 rfl rfl)
theorem dX11_canBe_22 : decode cX11_canBe 22 = .ok (.iload_n 1, 1) := dk_27 (dk_at dksX11_canBe_0 22 rfl rfl)
theorem dX11_canBe_23 : decode cX11_canBe 23 = .ok (.iconst 1, 1) := dk_4 (dk_at dksX11_canBe_0 23 rfl rfl)
theorem dX11_canBe_24 : decode cX11_canBe 24 = .ok (.if_icmp .eq 8, 3) := dk_159 0 8 (dk_at dksX11_canBe_1 0 rfl rfl)
theorem dX11_canBe_27 : decode cX11_canBe 27 = .ok (.iload_n 1, 1) := dk_27 (dk_at dksX11_canBe_1 3 rfl rfl)
theorem dX11_canBe_28 : decode cX11_canBe 28 = .ok (.iconst 2, 1) := dk_5 (dk_at dksX11_canBe_1 4 rfl rfl)
theorem dX11_canBe_29 : decode cX11_canBe 29 = .ok (.if_icmp .ne 7, 3) := dk_160 0 7 (dk_at dksX11_canBe_1 5 rfl rfl)
theorem dX11_canBe_32 : decode cX11_canBe 32 = .ok (.iconst 1, 1) := dk_4 (dk_at dksX11_canBe_1 8 rfl rfl)
theorem dX11_canBe_33 : decode cX11_canBe 33 = .ok (.goto 4, 3) := dk_167 0 4 (dk_at dksX11_canBe_1 9 rfl rfl)
theorem dX11_canBe_36 : decode cX11_canBe 36 = .ok (.iconst 0, 1) := dk_3 (dk_at dksX11_canBe_1 12 rfl rfl)
theorem dX11_canBe_37 : decode cX11_canBe 37 = .ok (.ireturn, 1) := dk_172 (dk_at dksX11_canBe_1 13 rfl rfl)
abbrev cX11_isBorne : ByteArray := prog_26_method_67_code
def yX11_isBorne : MethodName := ⟨RX11, "isBorne", "(II)Z"⟩
def dkwX11_isBorne_5 : List UInt8 := [42, 21, 5, 181, 1, 244, 42, 21, 6, 181, 1, 247, 4, 172]
abbrev dktX11_isBorne_5 : List UInt8 := dkwX11_isBorne_5 ++ []
def dkwX11_isBorne_4 : List UInt8 := [21, 6, 16, 16, 122, 16, 16, 162, 0, 15, 21, 6, 19, 1, 250, 126, 17, 3, 231, 164, 0, 5, 3, 172]
abbrev dktX11_isBorne_4 : List UInt8 := dkwX11_isBorne_4 ++ dktX11_isBorne_5
def dkwX11_isBorne_3 : List UInt8 := [132, 7, 1, 167, 255, 218, 21, 4, 4, 159, 0, 9, 21, 4, 7, 160, 0, 33, 21, 5, 6, 161, 0, 25]
abbrev dktX11_isBorne_3 : List UInt8 := dkwX11_isBorne_3 ++ dktX11_isBorne_4
def dkwX11_isBorne_2 : List UInt8 := [17, 1, 0, 21, 6, 104, 42, 27, 28, 7, 96, 21, 7, 96, 182, 1, 238, 96, 54, 6, 132, 5, 1]
abbrev dktX11_isBorne_2 : List UInt8 := dkwX11_isBorne_2 ++ dktX11_isBorne_3
def dkwX11_isBorne_1 : List UInt8 := [54, 5, 42, 180, 1, 247, 54, 6, 3, 54, 7, 21, 7, 29, 162, 0, 38, 21, 5, 6, 162, 0, 23]
abbrev dktX11_isBorne_1 : List UInt8 := dkwX11_isBorne_1 ++ dktX11_isBorne_2
def dkwX11_isBorne_0 : List UInt8 := [42, 27, 28, 5, 96, 182, 1, 238, 62, 42, 27, 28, 4, 96, 182, 1, 238, 54, 4, 42, 180, 1, 244]
abbrev dktX11_isBorne_0 : List UInt8 := dkwX11_isBorne_0 ++ dktX11_isBorne_1
theorem dksX11_isBorne_0 : cX11_isBorne.data.toList.drop 0 = dktX11_isBorne_0 := by decide +kernel
theorem dksX11_isBorne_1 : cX11_isBorne.data.toList.drop 23 = dktX11_isBorne_1 := dk_seg dksX11_isBorne_0 23 rfl rfl
theorem dksX11_isBorne_2 : cX11_isBorne.data.toList.drop 46 = dktX11_isBorne_2 := dk_seg dksX11_isBorne_1 23 rfl rfl
theorem dksX11_isBorne_3 : cX11_isBorne.data.toList.drop 69 = dktX11_isBorne_3 := dk_seg dksX11_isBorne_2 23 rfl rfl
theorem dksX11_isBorne_4 : cX11_isBorne.data.toList.drop 93 = dktX11_isBorne_4 := dk_seg dksX11_isBorne_3 24 rfl rfl
theorem dksX11_isBorne_5 : cX11_isBorne.data.toList.drop 117 = dktX11_isBorne_5 := dk_seg dksX11_isBorne_4 24 rfl rfl
theorem dX11_isBorne_0 : decode cX11_isBorne 0 = .ok (.aload_n 0, 1) := dk_42 (dk_at dksX11_isBorne_0 0 rfl rfl)
theorem dX11_isBorne_1 : decode cX11_isBorne 1 = .ok (.iload_n 1, 1) := dk_27 (dk_at dksX11_isBorne_0 1 rfl rfl)
theorem dX11_isBorne_2 : decode cX11_isBorne 2 = .ok (.iload_n 2, 1) := dk_28 (dk_at dksX11_isBorne_0 2 rfl rfl)
theorem dX11_isBorne_3 : decode cX11_isBorne 3 = .ok (.iconst 2, 1) := dk_5 (dk_at dksX11_isBorne_0 3 rfl rfl)
theorem dX11_isBorne_4 : decode cX11_isBorne 4 = .ok (.iadd, 1) := dk_96 (dk_at dksX11_isBorne_0 4 rfl rfl)
theorem dX11_isBorne_5 : decode cX11_isBorne 5 = .ok (.invokevirtual 494, 3) := dk_182 1 238 (dk_at dksX11_isBorne_0 5 rfl rfl)
theorem dX11_isBorne_8 : decode cX11_isBorne 8 = .ok (.istore_n 3, 1) := dk_62 (dk_at dksX11_isBorne_0 8 rfl rfl)
theorem dX11_isBorne_9 : decode cX11_isBorne 9 = .ok (.aload_n 0, 1) := dk_42 (dk_at dksX11_isBorne_0 9 rfl rfl)
theorem dX11_isBorne_10 : decode cX11_isBorne 10 = .ok (.iload_n 1, 1) := dk_27 (dk_at dksX11_isBorne_0 10 rfl rfl)
theorem dX11_isBorne_11 : decode cX11_isBorne 11 = .ok (.iload_n 2, 1) := dk_28 (dk_at dksX11_isBorne_0 11 rfl rfl)
theorem dX11_isBorne_12 : decode cX11_isBorne 12 = .ok (.iconst 1, 1) := dk_4 (dk_at dksX11_isBorne_0 12 rfl rfl)
theorem dX11_isBorne_13 : decode cX11_isBorne 13 = .ok (.iadd, 1) := dk_96 (dk_at dksX11_isBorne_0 13 rfl rfl)
theorem dX11_isBorne_14 : decode cX11_isBorne 14 = .ok (.invokevirtual 494, 3) := dk_182 1 238 (dk_at dksX11_isBorne_0 14 rfl rfl)
theorem dX11_isBorne_17 : decode cX11_isBorne 17 = .ok (.istore 4, 2) := dk_54 4 (dk_at dksX11_isBorne_0 17 rfl rfl)
theorem dX11_isBorne_19 : decode cX11_isBorne 19 = .ok (.aload_n 0, 1) := dk_42 (dk_at dksX11_isBorne_0 19 rfl rfl)
theorem dX11_isBorne_20 : decode cX11_isBorne 20 = .ok (.getfield 500, 3) := dk_180 1 244 (dk_at dksX11_isBorne_0 20 rfl rfl)
theorem dX11_isBorne_23 : decode cX11_isBorne 23 = .ok (.istore 5, 2) := dk_54 5 (dk_at dksX11_isBorne_1 0 rfl rfl)
theorem dX11_isBorne_25 : decode cX11_isBorne 25 = .ok (.aload_n 0, 1) := dk_42 (dk_at dksX11_isBorne_1 2 rfl rfl)
theorem dX11_isBorne_26 : decode cX11_isBorne 26 = .ok (.getfield 503, 3) := dk_180 1 247 (dk_at dksX11_isBorne_1 3 rfl rfl)
theorem dX11_isBorne_29 : decode cX11_isBorne 29 = .ok (.istore 6, 2) := dk_54 6 (dk_at dksX11_isBorne_1 6 rfl rfl)
theorem dX11_isBorne_31 : decode cX11_isBorne 31 = .ok (.iconst 0, 1) := dk_3 (dk_at dksX11_isBorne_1 8 rfl rfl)
theorem dX11_isBorne_32 : decode cX11_isBorne 32 = .ok (.istore 7, 2) := dk_54 7 (dk_at dksX11_isBorne_1 9 rfl rfl)
theorem dX11_isBorne_34 : decode cX11_isBorne 34 = .ok (.iload 7, 2) := dk_21 7 (dk_at dksX11_isBorne_1 11 rfl rfl)
theorem dX11_isBorne_36 : decode cX11_isBorne 36 = .ok (.iload_n 3, 1) := dk_29 (dk_at dksX11_isBorne_1 13 rfl rfl)
theorem dX11_isBorne_37 : decode cX11_isBorne 37 = .ok (.if_icmp .ge 38, 3) := dk_162 0 38 (dk_at dksX11_isBorne_1 14 rfl rfl)
theorem dX11_isBorne_40 : decode cX11_isBorne 40 = .ok (.iload 5, 2) := dk_21 5 (dk_at dksX11_isBorne_1 17 rfl rfl)
theorem dX11_isBorne_42 : decode cX11_isBorne 42 = .ok (.iconst 3, 1) := dk_6 (dk_at dksX11_isBorne_1 19 rfl rfl)
theorem dX11_isBorne_43 : decode cX11_isBorne 43 = .ok (.if_icmp .ge 23, 3) := dk_162 0 23 (dk_at dksX11_isBorne_1 20 rfl rfl)
theorem dX11_isBorne_46 : decode cX11_isBorne 46 = .ok (.sipush 256, 3) := dk_17 1 0 (dk_at dksX11_isBorne_2 0 rfl rfl)
theorem dX11_isBorne_49 : decode cX11_isBorne 49 = .ok (.iload 6, 2) := dk_21 6 (dk_at dksX11_isBorne_2 3 rfl rfl)
theorem dX11_isBorne_51 : decode cX11_isBorne 51 = .ok (.imul, 1) := dk_104 (dk_at dksX11_isBorne_2 5 rfl rfl)
theorem dX11_isBorne_52 : decode cX11_isBorne 52 = .ok (.aload_n 0, 1) := dk_42 (dk_at dksX11_isBorne_2 6 rfl rfl)
theorem dX11_isBorne_53 : decode cX11_isBorne 53 = .ok (.iload_n 1, 1) := dk_27 (dk_at dksX11_isBorne_2 7 rfl rfl)
theorem dX11_isBorne_54 : decode cX11_isBorne 54 = .ok (.iload_n 2, 1) := dk_28 (dk_at dksX11_isBorne_2 8 rfl rfl)
theorem dX11_isBorne_55 : decode cX11_isBorne 55 = .ok (.iconst 4, 1) := dk_7 (dk_at dksX11_isBorne_2 9 rfl rfl)
theorem dX11_isBorne_56 : decode cX11_isBorne 56 = .ok (.iadd, 1) := dk_96 (dk_at dksX11_isBorne_2 10 rfl rfl)
theorem dX11_isBorne_57 : decode cX11_isBorne 57 = .ok (.iload 7, 2) := dk_21 7 (dk_at dksX11_isBorne_2 11 rfl rfl)
theorem dX11_isBorne_59 : decode cX11_isBorne 59 = .ok (.iadd, 1) := dk_96 (dk_at dksX11_isBorne_2 13 rfl rfl)
theorem dX11_isBorne_60 : decode cX11_isBorne 60 = .ok (.invokevirtual 494, 3) := dk_182 1 238 (dk_at dksX11_isBorne_2 14 rfl rfl)
theorem dX11_isBorne_63 : decode cX11_isBorne 63 = .ok (.iadd, 1) := dk_96 (dk_at dksX11_isBorne_2 17 rfl rfl)
theorem dX11_isBorne_64 : decode cX11_isBorne 64 = .ok (.istore 6, 2) := dk_54 6 (dk_at dksX11_isBorne_2 18 rfl rfl)
theorem dX11_isBorne_66 : decode cX11_isBorne 66 = .ok (.iinc 5 1, 3) := dk_132 5 1 (dk_at dksX11_isBorne_2 20 rfl rfl)
theorem dX11_isBorne_69 : decode cX11_isBorne 69 = .ok (.iinc 7 1, 3) := dk_132 7 1 (dk_at dksX11_isBorne_3 0 rfl rfl)
theorem dX11_isBorne_72 : decode cX11_isBorne 72 = .ok (.goto (-38), 3) := dk_167 255 218 (dk_at dksX11_isBorne_3 3 rfl rfl)
theorem dX11_isBorne_75 : decode cX11_isBorne 75 = .ok (.iload 4, 2) := dk_21 4 (dk_at dksX11_isBorne_3 6 rfl rfl)
theorem dX11_isBorne_77 : decode cX11_isBorne 77 = .ok (.iconst 1, 1) := dk_4 (dk_at dksX11_isBorne_3 8 rfl rfl)
theorem dX11_isBorne_78 : decode cX11_isBorne 78 = .ok (.if_icmp .eq 9, 3) := dk_159 0 9 (dk_at dksX11_isBorne_3 9 rfl rfl)
theorem dX11_isBorne_81 : decode cX11_isBorne 81 = .ok (.iload 4, 2) := dk_21 4 (dk_at dksX11_isBorne_3 12 rfl rfl)
theorem dX11_isBorne_83 : decode cX11_isBorne 83 = .ok (.iconst 4, 1) := dk_7 (dk_at dksX11_isBorne_3 14 rfl rfl)
theorem dX11_isBorne_84 : decode cX11_isBorne 84 = .ok (.if_icmp .ne 33, 3) := dk_160 0 33 (dk_at dksX11_isBorne_3 15 rfl rfl)
theorem dX11_isBorne_87 : decode cX11_isBorne 87 = .ok (.iload 5, 2) := dk_21 5 (dk_at dksX11_isBorne_3 18 rfl rfl)
theorem dX11_isBorne_89 : decode cX11_isBorne 89 = .ok (.iconst 3, 1) := dk_6 (dk_at dksX11_isBorne_3 20 rfl rfl)
theorem dX11_isBorne_90 : decode cX11_isBorne 90 = .ok (.if_icmp .lt 25, 3) := dk_161 0 25 (dk_at dksX11_isBorne_3 21 rfl rfl)
theorem dX11_isBorne_93 : decode cX11_isBorne 93 = .ok (.iload 6, 2) := dk_21 6 (dk_at dksX11_isBorne_4 0 rfl rfl)
theorem dX11_isBorne_95 : decode cX11_isBorne 95 = .ok (.bipush 16, 2) := dk_16 16 (dk_at dksX11_isBorne_4 2 rfl rfl)
theorem dX11_isBorne_97 : decode cX11_isBorne 97 = .ok (.ishr, 1) := dk_122 (dk_at dksX11_isBorne_4 4 rfl rfl)
theorem dX11_isBorne_98 : decode cX11_isBorne 98 = .ok (.bipush 16, 2) := dk_16 16 (dk_at dksX11_isBorne_4 5 rfl rfl)
theorem dX11_isBorne_100 : decode cX11_isBorne 100 = .ok (.if_icmp .ge 15, 3) := dk_162 0 15 (dk_at dksX11_isBorne_4 7 rfl rfl)
theorem dX11_isBorne_103 : decode cX11_isBorne 103 = .ok (.iload 6, 2) := dk_21 6 (dk_at dksX11_isBorne_4 10 rfl rfl)
theorem dX11_isBorne_105 : decode cX11_isBorne 105 = .ok (.ldc_w 506, 3) := dk_19 1 250 (dk_at dksX11_isBorne_4 12 rfl rfl)
theorem dX11_isBorne_108 : decode cX11_isBorne 108 = .ok (.iand, 1) := dk_126 (dk_at dksX11_isBorne_4 15 rfl rfl)
theorem dX11_isBorne_109 : decode cX11_isBorne 109 = .ok (.sipush 999, 3) := dk_17 3 231 (dk_at dksX11_isBorne_4 16 rfl rfl)
theorem dX11_isBorne_112 : decode cX11_isBorne 112 = .ok (.if_icmp .le 5, 3) := dk_164 0 5 (dk_at dksX11_isBorne_4 19 rfl rfl)
theorem dX11_isBorne_115 : decode cX11_isBorne 115 = .ok (.iconst 0, 1) := dk_3 (dk_at dksX11_isBorne_4 22 rfl rfl)
theorem dX11_isBorne_116 : decode cX11_isBorne 116 = .ok (.ireturn, 1) := dk_172 (dk_at dksX11_isBorne_4 23 rfl rfl)
theorem dX11_isBorne_117 : decode cX11_isBorne 117 = .ok (.aload_n 0, 1) := dk_42 (dk_at dksX11_isBorne_5 0 rfl rfl)
theorem dX11_isBorne_118 : decode cX11_isBorne 118 = .ok (.iload 5, 2) := dk_21 5 (dk_at dksX11_isBorne_5 1 rfl rfl)
theorem dX11_isBorne_120 : decode cX11_isBorne 120 = .ok (.putfield 500, 3) := dk_181 1 244 (dk_at dksX11_isBorne_5 3 rfl rfl)
theorem dX11_isBorne_123 : decode cX11_isBorne 123 = .ok (.aload_n 0, 1) := dk_42 (dk_at dksX11_isBorne_5 6 rfl rfl)
theorem dX11_isBorne_124 : decode cX11_isBorne 124 = .ok (.iload 6, 2) := dk_21 6 (dk_at dksX11_isBorne_5 7 rfl rfl)
theorem dX11_isBorne_126 : decode cX11_isBorne 126 = .ok (.putfield 503, 3) := dk_181 1 247 (dk_at dksX11_isBorne_5 9 rfl rfl)
theorem dX11_isBorne_129 : decode cX11_isBorne 129 = .ok (.iconst 1, 1) := dk_4 (dk_at dksX11_isBorne_5 12 rfl rfl)
theorem dX11_isBorne_130 : decode cX11_isBorne 130 = .ok (.ireturn, 1) := dk_172 (dk_at dksX11_isBorne_5 13 rfl rfl)
abbrev cX11_recordRead : ByteArray := prog_26_method_68_code
def yX11_recordRead : MethodName := ⟨RX11, "recordRead", "(I)V"⟩
def dkwX11_recordRead_2 : List UInt8 := [180, 0, 111, 17, 0, 192, 27, 96, 42, 180, 1, 254, 79, 42, 89, 180, 1, 254, 4, 96, 181, 1, 254, 177]
abbrev dktX11_recordRead_2 : List UInt8 := dkwX11_recordRead_2 ++ []
def dkwX11_recordRead_1 : List UInt8 := [180, 0, 111, 17, 0, 144, 42, 180, 1, 247, 16, 16, 122, 96, 42, 180, 1, 247, 19, 1, 250, 126, 79, 42]
abbrev dktX11_recordRead_1 : List UInt8 := dkwX11_recordRead_1 ++ dktX11_recordRead_2
def dkwX11_recordRead_0 : List UInt8 := [42, 180, 1, 251, 153, 0, 55, 42, 180, 1, 254, 42, 180, 0, 111, 16, 9, 46, 161, 0, 27, 42]
abbrev dktX11_recordRead_0 : List UInt8 := dkwX11_recordRead_0 ++ dktX11_recordRead_1
theorem dksX11_recordRead_0 : cX11_recordRead.data.toList.drop 0 = dktX11_recordRead_0 := by decide +kernel
theorem dksX11_recordRead_1 : cX11_recordRead.data.toList.drop 22 = dktX11_recordRead_1 := dk_seg dksX11_recordRead_0 22 rfl rfl
theorem dksX11_recordRead_2 : cX11_recordRead.data.toList.drop 46 = dktX11_recordRead_2 := dk_seg dksX11_recordRead_1 24 rfl rfl
theorem dX11_recordRead_0 : decode cX11_recordRead 0 = .ok (.aload_n 0, 1) := dk_42 (dk_at dksX11_recordRead_0 0 rfl rfl)
theorem dX11_recordRead_1 : decode cX11_recordRead 1 = .ok (.getfield 507, 3) := dk_180 1 251 (dk_at dksX11_recordRead_0 1 rfl rfl)
theorem dX11_recordRead_4 : decode cX11_recordRead 4 = .ok (.ifCond .eq 55, 3) := dk_153 0 55 (dk_at dksX11_recordRead_0 4 rfl rfl)
theorem dX11_recordRead_7 : decode cX11_recordRead 7 = .ok (.aload_n 0, 1) := dk_42 (dk_at dksX11_recordRead_0 7 rfl rfl)
theorem dX11_recordRead_8 : decode cX11_recordRead 8 = .ok (.getfield 510, 3) := dk_180 1 254 (dk_at dksX11_recordRead_0 8 rfl rfl)
theorem dX11_recordRead_11 : decode cX11_recordRead 11 = .ok (.aload_n 0, 1) := dk_42 (dk_at dksX11_recordRead_0 11 rfl rfl)
theorem dX11_recordRead_12 : decode cX11_recordRead 12 = .ok (.getfield 111, 3) := dk_180 0 111 (dk_at dksX11_recordRead_0 12 rfl rfl)
theorem dX11_recordRead_15 : decode cX11_recordRead 15 = .ok (.bipush 9, 2) := dk_16 9 (dk_at dksX11_recordRead_0 15 rfl rfl)
theorem dX11_recordRead_17 : decode cX11_recordRead 17 = .ok (.iaload, 1) := dk_46 (dk_at dksX11_recordRead_0 17 rfl rfl)
theorem dX11_recordRead_18 : decode cX11_recordRead 18 = .ok (.if_icmp .lt 27, 3) := dk_161 0 27 (dk_at dksX11_recordRead_0 18 rfl rfl)
theorem dX11_recordRead_21 : decode cX11_recordRead 21 = .ok (.aload_n 0, 1) := dk_42 (dk_at dksX11_recordRead_0 21 rfl rfl)
theorem dX11_recordRead_22 : decode cX11_recordRead 22 = .ok (.getfield 111, 3) := dk_180 0 111 (dk_at dksX11_recordRead_1 0 rfl rfl)
theorem dX11_recordRead_25 : decode cX11_recordRead 25 = .ok (.sipush 144, 3) := dk_17 0 144 (dk_at dksX11_recordRead_1 3 rfl rfl)
theorem dX11_recordRead_28 : decode cX11_recordRead 28 = .ok (.aload_n 0, 1) := dk_42 (dk_at dksX11_recordRead_1 6 rfl rfl)
theorem dX11_recordRead_29 : decode cX11_recordRead 29 = .ok (.getfield 503, 3) := dk_180 1 247 (dk_at dksX11_recordRead_1 7 rfl rfl)
theorem dX11_recordRead_32 : decode cX11_recordRead 32 = .ok (.bipush 16, 2) := dk_16 16 (dk_at dksX11_recordRead_1 10 rfl rfl)
theorem dX11_recordRead_34 : decode cX11_recordRead 34 = .ok (.ishr, 1) := dk_122 (dk_at dksX11_recordRead_1 12 rfl rfl)
theorem dX11_recordRead_35 : decode cX11_recordRead 35 = .ok (.iadd, 1) := dk_96 (dk_at dksX11_recordRead_1 13 rfl rfl)
theorem dX11_recordRead_36 : decode cX11_recordRead 36 = .ok (.aload_n 0, 1) := dk_42 (dk_at dksX11_recordRead_1 14 rfl rfl)
theorem dX11_recordRead_37 : decode cX11_recordRead 37 = .ok (.getfield 503, 3) := dk_180 1 247 (dk_at dksX11_recordRead_1 15 rfl rfl)
theorem dX11_recordRead_40 : decode cX11_recordRead 40 = .ok (.ldc_w 506, 3) := dk_19 1 250 (dk_at dksX11_recordRead_1 18 rfl rfl)
theorem dX11_recordRead_43 : decode cX11_recordRead 43 = .ok (.iand, 1) := dk_126 (dk_at dksX11_recordRead_1 21 rfl rfl)
theorem dX11_recordRead_44 : decode cX11_recordRead 44 = .ok (.iastore, 1) := dk_79 (dk_at dksX11_recordRead_1 22 rfl rfl)
theorem dX11_recordRead_45 : decode cX11_recordRead 45 = .ok (.aload_n 0, 1) := dk_42 (dk_at dksX11_recordRead_1 23 rfl rfl)
theorem dX11_recordRead_46 : decode cX11_recordRead 46 = .ok (.getfield 111, 3) := dk_180 0 111 (dk_at dksX11_recordRead_2 0 rfl rfl)
theorem dX11_recordRead_49 : decode cX11_recordRead 49 = .ok (.sipush 192, 3) := dk_17 0 192 (dk_at dksX11_recordRead_2 3 rfl rfl)
theorem dX11_recordRead_52 : decode cX11_recordRead 52 = .ok (.iload_n 1, 1) := dk_27 (dk_at dksX11_recordRead_2 6 rfl rfl)
theorem dX11_recordRead_53 : decode cX11_recordRead 53 = .ok (.iadd, 1) := dk_96 (dk_at dksX11_recordRead_2 7 rfl rfl)
theorem dX11_recordRead_54 : decode cX11_recordRead 54 = .ok (.aload_n 0, 1) := dk_42 (dk_at dksX11_recordRead_2 8 rfl rfl)
theorem dX11_recordRead_55 : decode cX11_recordRead 55 = .ok (.getfield 510, 3) := dk_180 1 254 (dk_at dksX11_recordRead_2 9 rfl rfl)
theorem dX11_recordRead_58 : decode cX11_recordRead 58 = .ok (.iastore, 1) := dk_79 (dk_at dksX11_recordRead_2 12 rfl rfl)
theorem dX11_recordRead_59 : decode cX11_recordRead 59 = .ok (.aload_n 0, 1) := dk_42 (dk_at dksX11_recordRead_2 13 rfl rfl)
theorem dX11_recordRead_60 : decode cX11_recordRead 60 = .ok (.dup, 1) := dk_89 (dk_at dksX11_recordRead_2 14 rfl rfl)
theorem dX11_recordRead_61 : decode cX11_recordRead 61 = .ok (.getfield 510, 3) := dk_180 1 254 (dk_at dksX11_recordRead_2 15 rfl rfl)
theorem dX11_recordRead_64 : decode cX11_recordRead 64 = .ok (.iconst 1, 1) := dk_4 (dk_at dksX11_recordRead_2 18 rfl rfl)
theorem dX11_recordRead_65 : decode cX11_recordRead 65 = .ok (.iadd, 1) := dk_96 (dk_at dksX11_recordRead_2 19 rfl rfl)
theorem dX11_recordRead_66 : decode cX11_recordRead 66 = .ok (.putfield 510, 3) := dk_181 1 254 (dk_at dksX11_recordRead_2 20 rfl rfl)
theorem dX11_recordRead_69 : decode cX11_recordRead 69 = .ok (.return_, 1) := dk_177 (dk_at dksX11_recordRead_2 23 rfl rfl)
abbrev cX11_frame : ByteArray := prog_26_method_82_code
def yX11_frame : MethodName := ⟨RX11, "frame", "(III)I"⟩
def dkwX11_frame_2 : List UInt8 := [54, 4, 29, 154, 0, 8, 21, 4, 167, 0, 12, 42, 27, 21, 4, 29, 96, 182, 1, 238, 172]
abbrev dktX11_frame_2 : List UInt8 := dkwX11_frame_2 ++ []
def dkwX11_frame_1 : List UInt8 := [153, 0, 15, 29, 133, 9, 20, 2, 64, 184, 1, 19, 154, 0, 5, 2, 172, 42, 180, 0, 126, 28, 46]
abbrev dktX11_frame_1 : List UInt8 := dkwX11_frame_1 ++ dktX11_frame_2
def dkwX11_frame_0 : List UInt8 := [42, 27, 182, 2, 58, 153, 0, 32, 28, 133, 9, 42, 27, 182, 2, 61, 4, 100, 133, 184, 1, 19]
abbrev dktX11_frame_0 : List UInt8 := dkwX11_frame_0 ++ dktX11_frame_1
theorem dksX11_frame_0 : cX11_frame.data.toList.drop 0 = dktX11_frame_0 := by decide +kernel
theorem dksX11_frame_1 : cX11_frame.data.toList.drop 22 = dktX11_frame_1 := dk_seg dksX11_frame_0 22 rfl rfl
theorem dksX11_frame_2 : cX11_frame.data.toList.drop 45 = dktX11_frame_2 := dk_seg dksX11_frame_1 23 rfl rfl
theorem dX11_frame_0 : decode cX11_frame 0 = .ok (.aload_n 0, 1) := dk_42 (dk_at dksX11_frame_0 0 rfl rfl)
theorem dX11_frame_1 : decode cX11_frame 1 = .ok (.iload_n 1, 1) := dk_27 (dk_at dksX11_frame_0 1 rfl rfl)
theorem dX11_frame_2 : decode cX11_frame 2 = .ok (.invokevirtual 570, 3) := dk_182 2 58 (dk_at dksX11_frame_0 2 rfl rfl)
theorem dX11_frame_5 : decode cX11_frame 5 = .ok (.ifCond .eq 32, 3) := dk_153 0 32 (dk_at dksX11_frame_0 5 rfl rfl)
theorem dX11_frame_8 : decode cX11_frame 8 = .ok (.iload_n 2, 1) := dk_28 (dk_at dksX11_frame_0 8 rfl rfl)
theorem dX11_frame_9 : decode cX11_frame 9 = .ok (.i2l, 1) := dk_133 (dk_at dksX11_frame_0 9 rfl rfl)
theorem dX11_frame_10 : decode cX11_frame 10 = .ok (.lconst 0, 1) := dk_9 (dk_at dksX11_frame_0 10 rfl rfl)
theorem dX11_frame_11 : decode cX11_frame 11 = .ok (.aload_n 0, 1) := dk_42 (dk_at dksX11_frame_0 11 rfl rfl)
theorem dX11_frame_12 : decode cX11_frame 12 = .ok (.iload_n 1, 1) := dk_27 (dk_at dksX11_frame_0 12 rfl rfl)
theorem dX11_frame_13 : decode cX11_frame 13 = .ok (.invokevirtual 573, 3) := dk_182 2 61 (dk_at dksX11_frame_0 13 rfl rfl)
theorem dX11_frame_16 : decode cX11_frame 16 = .ok (.iconst 1, 1) := dk_4 (dk_at dksX11_frame_0 16 rfl rfl)
theorem dX11_frame_17 : decode cX11_frame 17 = .ok (.isub, 1) := dk_100 (dk_at dksX11_frame_0 17 rfl rfl)
theorem dX11_frame_18 : decode cX11_frame 18 = .ok (.i2l, 1) := dk_133 (dk_at dksX11_frame_0 18 rfl rfl)
theorem dX11_frame_19 : decode cX11_frame 19 = .ok (.invokestatic 275, 3) := dk_184 1 19 (dk_at dksX11_frame_0 19 rfl rfl)
theorem dX11_frame_22 : decode cX11_frame 22 = .ok (.ifCond .eq 15, 3) := dk_153 0 15 (dk_at dksX11_frame_1 0 rfl rfl)
theorem dX11_frame_25 : decode cX11_frame 25 = .ok (.iload_n 3, 1) := dk_29 (dk_at dksX11_frame_1 3 rfl rfl)
theorem dX11_frame_26 : decode cX11_frame 26 = .ok (.i2l, 1) := dk_133 (dk_at dksX11_frame_1 4 rfl rfl)
theorem dX11_frame_27 : decode cX11_frame 27 = .ok (.lconst 0, 1) := dk_9 (dk_at dksX11_frame_1 5 rfl rfl)
theorem dX11_frame_28 : decode cX11_frame 28 = .ok (.ldc2_w 576, 3) := dk_20 2 64 (dk_at dksX11_frame_1 6 rfl rfl)
theorem dX11_frame_31 : decode cX11_frame 31 = .ok (.invokestatic 275, 3) := dk_184 1 19 (dk_at dksX11_frame_1 9 rfl rfl)
theorem dX11_frame_34 : decode cX11_frame 34 = .ok (.ifCond .ne 5, 3) := dk_154 0 5 (dk_at dksX11_frame_1 12 rfl rfl)
theorem dX11_frame_37 : decode cX11_frame 37 = .ok (.iconst (-1), 1) := dk_2 (dk_at dksX11_frame_1 15 rfl rfl)
theorem dX11_frame_38 : decode cX11_frame 38 = .ok (.ireturn, 1) := dk_172 (dk_at dksX11_frame_1 16 rfl rfl)
theorem dX11_frame_39 : decode cX11_frame 39 = .ok (.aload_n 0, 1) := dk_42 (dk_at dksX11_frame_1 17 rfl rfl)
theorem dX11_frame_40 : decode cX11_frame 40 = .ok (.getfield 126, 3) := dk_180 0 126 (dk_at dksX11_frame_1 18 rfl rfl)
theorem dX11_frame_43 : decode cX11_frame 43 = .ok (.iload_n 2, 1) := dk_28 (dk_at dksX11_frame_1 21 rfl rfl)
theorem dX11_frame_44 : decode cX11_frame 44 = .ok (.iaload, 1) := dk_46 (dk_at dksX11_frame_1 22 rfl rfl)
theorem dX11_frame_45 : decode cX11_frame 45 = .ok (.istore 4, 2) := dk_54 4 (dk_at dksX11_frame_2 0 rfl rfl)
theorem dX11_frame_47 : decode cX11_frame 47 = .ok (.iload_n 3, 1) := dk_29 (dk_at dksX11_frame_2 2 rfl rfl)
theorem dX11_frame_48 : decode cX11_frame 48 = .ok (.ifCond .ne 8, 3) := dk_154 0 8 (dk_at dksX11_frame_2 3 rfl rfl)
theorem dX11_frame_51 : decode cX11_frame 51 = .ok (.iload 4, 2) := dk_21 4 (dk_at dksX11_frame_2 6 rfl rfl)
theorem dX11_frame_53 : decode cX11_frame 53 = .ok (.goto 12, 3) := dk_167 0 12 (dk_at dksX11_frame_2 8 rfl rfl)
theorem dX11_frame_56 : decode cX11_frame 56 = .ok (.aload_n 0, 1) := dk_42 (dk_at dksX11_frame_2 11 rfl rfl)
theorem dX11_frame_57 : decode cX11_frame 57 = .ok (.iload_n 1, 1) := dk_27 (dk_at dksX11_frame_2 12 rfl rfl)
theorem dX11_frame_58 : decode cX11_frame 58 = .ok (.iload 4, 2) := dk_21 4 (dk_at dksX11_frame_2 13 rfl rfl)
theorem dX11_frame_60 : decode cX11_frame 60 = .ok (.iload_n 3, 1) := dk_29 (dk_at dksX11_frame_2 15 rfl rfl)
theorem dX11_frame_61 : decode cX11_frame 61 = .ok (.iadd, 1) := dk_96 (dk_at dksX11_frame_2 16 rfl rfl)
theorem dX11_frame_62 : decode cX11_frame 62 = .ok (.invokevirtual 494, 3) := dk_182 1 238 (dk_at dksX11_frame_2 17 rfl rfl)
theorem dX11_frame_65 : decode cX11_frame 65 = .ok (.ireturn, 1) := dk_172 (dk_at dksX11_frame_2 20 rfl rfl)
abbrev cX11_octetOf : ByteArray := prog_26_method_83_code
def yX11_octetOf : MethodName := ⟨RX11, "octetOf", "(II)I"⟩
def dkwX11_octetOf_1 : List UInt8 := [42, 27, 28, 182, 1, 238, 167, 0, 4, 2, 172]
abbrev dktX11_octetOf_1 : List UInt8 := dkwX11_octetOf_1 ++ []
def dkwX11_octetOf_0 : List UInt8 := [42, 27, 182, 2, 58, 153, 0, 28, 28, 133, 9, 42, 182, 1, 146, 4, 100, 133, 184, 1, 19, 153, 0, 12]
abbrev dktX11_octetOf_0 : List UInt8 := dkwX11_octetOf_0 ++ dktX11_octetOf_1
theorem dksX11_octetOf_0 : cX11_octetOf.data.toList.drop 0 = dktX11_octetOf_0 := by decide +kernel
theorem dksX11_octetOf_1 : cX11_octetOf.data.toList.drop 24 = dktX11_octetOf_1 := dk_seg dksX11_octetOf_0 24 rfl rfl
theorem dX11_octetOf_0 : decode cX11_octetOf 0 = .ok (.aload_n 0, 1) := dk_42 (dk_at dksX11_octetOf_0 0 rfl rfl)
theorem dX11_octetOf_1 : decode cX11_octetOf 1 = .ok (.iload_n 1, 1) := dk_27 (dk_at dksX11_octetOf_0 1 rfl rfl)
theorem dX11_octetOf_2 : decode cX11_octetOf 2 = .ok (.invokevirtual 570, 3) := dk_182 2 58 (dk_at dksX11_octetOf_0 2 rfl rfl)
theorem dX11_octetOf_5 : decode cX11_octetOf 5 = .ok (.ifCond .eq 28, 3) := dk_153 0 28 (dk_at dksX11_octetOf_0 5 rfl rfl)
theorem dX11_octetOf_8 : decode cX11_octetOf 8 = .ok (.iload_n 2, 1) := dk_28 (dk_at dksX11_octetOf_0 8 rfl rfl)
theorem dX11_octetOf_9 : decode cX11_octetOf 9 = .ok (.i2l, 1) := dk_133 (dk_at dksX11_octetOf_0 9 rfl rfl)
theorem dX11_octetOf_10 : decode cX11_octetOf 10 = .ok (.lconst 0, 1) := dk_9 (dk_at dksX11_octetOf_0 10 rfl rfl)
theorem dX11_octetOf_11 : decode cX11_octetOf 11 = .ok (.aload_n 0, 1) := dk_42 (dk_at dksX11_octetOf_0 11 rfl rfl)
theorem dX11_octetOf_12 : decode cX11_octetOf 12 = .ok (.invokevirtual 402, 3) := dk_182 1 146 (dk_at dksX11_octetOf_0 12 rfl rfl)
theorem dX11_octetOf_15 : decode cX11_octetOf 15 = .ok (.iconst 1, 1) := dk_4 (dk_at dksX11_octetOf_0 15 rfl rfl)
theorem dX11_octetOf_16 : decode cX11_octetOf 16 = .ok (.isub, 1) := dk_100 (dk_at dksX11_octetOf_0 16 rfl rfl)
theorem dX11_octetOf_17 : decode cX11_octetOf 17 = .ok (.i2l, 1) := dk_133 (dk_at dksX11_octetOf_0 17 rfl rfl)
theorem dX11_octetOf_18 : decode cX11_octetOf 18 = .ok (.invokestatic 275, 3) := dk_184 1 19 (dk_at dksX11_octetOf_0 18 rfl rfl)
theorem dX11_octetOf_21 : decode cX11_octetOf 21 = .ok (.ifCond .eq 12, 3) := dk_153 0 12 (dk_at dksX11_octetOf_0 21 rfl rfl)
theorem dX11_octetOf_24 : decode cX11_octetOf 24 = .ok (.aload_n 0, 1) := dk_42 (dk_at dksX11_octetOf_1 0 rfl rfl)
theorem dX11_octetOf_25 : decode cX11_octetOf 25 = .ok (.iload_n 1, 1) := dk_27 (dk_at dksX11_octetOf_1 1 rfl rfl)
theorem dX11_octetOf_26 : decode cX11_octetOf 26 = .ok (.iload_n 2, 1) := dk_28 (dk_at dksX11_octetOf_1 2 rfl rfl)
theorem dX11_octetOf_27 : decode cX11_octetOf 27 = .ok (.invokevirtual 494, 3) := dk_182 1 238 (dk_at dksX11_octetOf_1 3 rfl rfl)
theorem dX11_octetOf_30 : decode cX11_octetOf 30 = .ok (.goto 4, 3) := dk_167 0 4 (dk_at dksX11_octetOf_1 6 rfl rfl)
theorem dX11_octetOf_33 : decode cX11_octetOf 33 = .ok (.iconst (-1), 1) := dk_2 (dk_at dksX11_octetOf_1 9 rfl rfl)
theorem dX11_octetOf_34 : decode cX11_octetOf 34 = .ok (.ireturn, 1) := dk_172 (dk_at dksX11_octetOf_1 10 rfl rfl)
abbrev cX11_place : ByteArray := prog_26_method_84_code
def yX11_place : MethodName := ⟨RX11, "place", "(I)I"⟩
def dkwX11_place_1 : List UInt8 := [27, 96, 46, 167, 0, 4, 2, 172]
abbrev dktX11_place_1 : List UInt8 := dkwX11_place_1 ++ []
def dkwX11_place_0 : List UInt8 := [42, 180, 1, 84, 153, 0, 26, 27, 133, 9, 20, 2, 64, 184, 1, 19, 153, 0, 14, 42, 180, 0, 111, 8]
abbrev dktX11_place_0 : List UInt8 := dkwX11_place_0 ++ dktX11_place_1
theorem dksX11_place_0 : cX11_place.data.toList.drop 0 = dktX11_place_0 := by decide +kernel
theorem dksX11_place_1 : cX11_place.data.toList.drop 24 = dktX11_place_1 := dk_seg dksX11_place_0 24 rfl rfl
theorem dX11_place_0 : decode cX11_place 0 = .ok (.aload_n 0, 1) := dk_42 (dk_at dksX11_place_0 0 rfl rfl)
theorem dX11_place_1 : decode cX11_place 1 = .ok (.getfield 340, 3) := dk_180 1 84 (dk_at dksX11_place_0 1 rfl rfl)
theorem dX11_place_4 : decode cX11_place 4 = .ok (.ifCond .eq 26, 3) := dk_153 0 26 (dk_at dksX11_place_0 4 rfl rfl)
theorem dX11_place_7 : decode cX11_place 7 = .ok (.iload_n 1, 1) := dk_27 (dk_at dksX11_place_0 7 rfl rfl)
theorem dX11_place_8 : decode cX11_place 8 = .ok (.i2l, 1) := dk_133 (dk_at dksX11_place_0 8 rfl rfl)
theorem dX11_place_9 : decode cX11_place 9 = .ok (.lconst 0, 1) := dk_9 (dk_at dksX11_place_0 9 rfl rfl)
theorem dX11_place_10 : decode cX11_place 10 = .ok (.ldc2_w 576, 3) := dk_20 2 64 (dk_at dksX11_place_0 10 rfl rfl)
theorem dX11_place_13 : decode cX11_place 13 = .ok (.invokestatic 275, 3) := dk_184 1 19 (dk_at dksX11_place_0 13 rfl rfl)
theorem dX11_place_16 : decode cX11_place 16 = .ok (.ifCond .eq 14, 3) := dk_153 0 14 (dk_at dksX11_place_0 16 rfl rfl)
theorem dX11_place_19 : decode cX11_place 19 = .ok (.aload_n 0, 1) := dk_42 (dk_at dksX11_place_0 19 rfl rfl)
theorem dX11_place_20 : decode cX11_place 20 = .ok (.getfield 111, 3) := dk_180 0 111 (dk_at dksX11_place_0 20 rfl rfl)
theorem dX11_place_23 : decode cX11_place 23 = .ok (.iconst 5, 1) := dk_8 (dk_at dksX11_place_0 23 rfl rfl)
theorem dX11_place_24 : decode cX11_place 24 = .ok (.iload_n 1, 1) := dk_27 (dk_at dksX11_place_1 0 rfl rfl)
theorem dX11_place_25 : decode cX11_place 25 = .ok (.iadd, 1) := dk_96 (dk_at dksX11_place_1 1 rfl rfl)
theorem dX11_place_26 : decode cX11_place 26 = .ok (.iaload, 1) := dk_46 (dk_at dksX11_place_1 2 rfl rfl)
theorem dX11_place_27 : decode cX11_place 27 = .ok (.goto 4, 3) := dk_167 0 4 (dk_at dksX11_place_1 3 rfl rfl)
theorem dX11_place_30 : decode cX11_place 30 = .ok (.iconst (-1), 1) := dk_2 (dk_at dksX11_place_1 6 rfl rfl)
theorem dX11_place_31 : decode cX11_place 31 = .ok (.ireturn, 1) := dk_172 (dk_at dksX11_place_1 7 rfl rfl)
abbrev cX11_value : ByteArray := prog_26_method_85_code
def yX11_value : MethodName := ⟨RX11, "value", "(I)I"⟩
def dkwX11_value_1 : List UInt8 := [17, 0, 144, 27, 96, 46, 167, 0, 4, 2, 172]
abbrev dktX11_value_1 : List UInt8 := dkwX11_value_1 ++ []
def dkwX11_value_0 : List UInt8 := [42, 180, 1, 84, 153, 0, 28, 27, 133, 9, 20, 2, 66, 184, 1, 19, 153, 0, 16, 42, 180, 0, 111]
abbrev dktX11_value_0 : List UInt8 := dkwX11_value_0 ++ dktX11_value_1
theorem dksX11_value_0 : cX11_value.data.toList.drop 0 = dktX11_value_0 := by decide +kernel
theorem dksX11_value_1 : cX11_value.data.toList.drop 23 = dktX11_value_1 := dk_seg dksX11_value_0 23 rfl rfl
theorem dX11_value_0 : decode cX11_value 0 = .ok (.aload_n 0, 1) := dk_42 (dk_at dksX11_value_0 0 rfl rfl)
theorem dX11_value_1 : decode cX11_value 1 = .ok (.getfield 340, 3) := dk_180 1 84 (dk_at dksX11_value_0 1 rfl rfl)
theorem dX11_value_4 : decode cX11_value 4 = .ok (.ifCond .eq 28, 3) := dk_153 0 28 (dk_at dksX11_value_0 4 rfl rfl)
theorem dX11_value_7 : decode cX11_value 7 = .ok (.iload_n 1, 1) := dk_27 (dk_at dksX11_value_0 7 rfl rfl)
theorem dX11_value_8 : decode cX11_value 8 = .ok (.i2l, 1) := dk_133 (dk_at dksX11_value_0 8 rfl rfl)
theorem dX11_value_9 : decode cX11_value 9 = .ok (.lconst 0, 1) := dk_9 (dk_at dksX11_value_0 9 rfl rfl)
theorem dX11_value_10 : decode cX11_value 10 = .ok (.ldc2_w 578, 3) := dk_20 2 66 (dk_at dksX11_value_0 10 rfl rfl)
theorem dX11_value_13 : decode cX11_value 13 = .ok (.invokestatic 275, 3) := dk_184 1 19 (dk_at dksX11_value_0 13 rfl rfl)
theorem dX11_value_16 : decode cX11_value 16 = .ok (.ifCond .eq 16, 3) := dk_153 0 16 (dk_at dksX11_value_0 16 rfl rfl)
theorem dX11_value_19 : decode cX11_value 19 = .ok (.aload_n 0, 1) := dk_42 (dk_at dksX11_value_0 19 rfl rfl)
theorem dX11_value_20 : decode cX11_value 20 = .ok (.getfield 111, 3) := dk_180 0 111 (dk_at dksX11_value_0 20 rfl rfl)
theorem dX11_value_23 : decode cX11_value 23 = .ok (.sipush 144, 3) := dk_17 0 144 (dk_at dksX11_value_1 0 rfl rfl)
theorem dX11_value_26 : decode cX11_value 26 = .ok (.iload_n 1, 1) := dk_27 (dk_at dksX11_value_1 3 rfl rfl)
theorem dX11_value_27 : decode cX11_value 27 = .ok (.iadd, 1) := dk_96 (dk_at dksX11_value_1 4 rfl rfl)
theorem dX11_value_28 : decode cX11_value 28 = .ok (.iaload, 1) := dk_46 (dk_at dksX11_value_1 5 rfl rfl)
theorem dX11_value_29 : decode cX11_value 29 = .ok (.goto 4, 3) := dk_167 0 4 (dk_at dksX11_value_1 6 rfl rfl)
theorem dX11_value_32 : decode cX11_value 32 = .ok (.iconst (-1), 1) := dk_2 (dk_at dksX11_value_1 9 rfl rfl)
theorem dX11_value_33 : decode cX11_value 33 = .ok (.ireturn, 1) := dk_172 (dk_at dksX11_value_1 10 rfl rfl)
abbrev cX11_soon : ByteArray := prog_26_method_86_code
def yX11_soon : MethodName := ⟨RX11, "soon", "(I)I"⟩
def dkwX11_soon_1 : List UInt8 := [29, 3, 182, 1, 107, 27, 160, 0, 10, 42, 29, 4, 182, 1, 107, 61, 132, 3, 1, 167, 255, 226, 28, 172]
abbrev dktX11_soon_1 : List UInt8 := dkwX11_soon_1 ++ []
def dkwX11_soon_0 : List UInt8 := [42, 27, 182, 2, 68, 61, 42, 180, 0, 111, 5, 46, 62, 29, 42, 180, 0, 111, 4, 46, 162, 0, 26, 42]
abbrev dktX11_soon_0 : List UInt8 := dkwX11_soon_0 ++ dktX11_soon_1
theorem dksX11_soon_0 : cX11_soon.data.toList.drop 0 = dktX11_soon_0 := by decide +kernel
theorem dksX11_soon_1 : cX11_soon.data.toList.drop 24 = dktX11_soon_1 := dk_seg dksX11_soon_0 24 rfl rfl
theorem dX11_soon_0 : decode cX11_soon 0 = .ok (.aload_n 0, 1) := dk_42 (dk_at dksX11_soon_0 0 rfl rfl)
theorem dX11_soon_1 : decode cX11_soon 1 = .ok (.iload_n 1, 1) := dk_27 (dk_at dksX11_soon_0 1 rfl rfl)
theorem dX11_soon_2 : decode cX11_soon 2 = .ok (.invokevirtual 580, 3) := dk_182 2 68 (dk_at dksX11_soon_0 2 rfl rfl)
theorem dX11_soon_5 : decode cX11_soon 5 = .ok (.istore_n 2, 1) := dk_61 (dk_at dksX11_soon_0 5 rfl rfl)
theorem dX11_soon_6 : decode cX11_soon 6 = .ok (.aload_n 0, 1) := dk_42 (dk_at dksX11_soon_0 6 rfl rfl)
theorem dX11_soon_7 : decode cX11_soon 7 = .ok (.getfield 111, 3) := dk_180 0 111 (dk_at dksX11_soon_0 7 rfl rfl)
theorem dX11_soon_10 : decode cX11_soon 10 = .ok (.iconst 2, 1) := dk_5 (dk_at dksX11_soon_0 10 rfl rfl)
theorem dX11_soon_11 : decode cX11_soon 11 = .ok (.iaload, 1) := dk_46 (dk_at dksX11_soon_0 11 rfl rfl)
theorem dX11_soon_12 : decode cX11_soon 12 = .ok (.istore_n 3, 1) := dk_62 (dk_at dksX11_soon_0 12 rfl rfl)
theorem dX11_soon_13 : decode cX11_soon 13 = .ok (.iload_n 3, 1) := dk_29 (dk_at dksX11_soon_0 13 rfl rfl)
theorem dX11_soon_14 : decode cX11_soon 14 = .ok (.aload_n 0, 1) := dk_42 (dk_at dksX11_soon_0 14 rfl rfl)
theorem dX11_soon_15 : decode cX11_soon 15 = .ok (.getfield 111, 3) := dk_180 0 111 (dk_at dksX11_soon_0 15 rfl rfl)
theorem dX11_soon_18 : decode cX11_soon 18 = .ok (.iconst 1, 1) := dk_4 (dk_at dksX11_soon_0 18 rfl rfl)
theorem dX11_soon_19 : decode cX11_soon 19 = .ok (.iaload, 1) := dk_46 (dk_at dksX11_soon_0 19 rfl rfl)
theorem dX11_soon_20 : decode cX11_soon 20 = .ok (.if_icmp .ge 26, 3) := dk_162 0 26 (dk_at dksX11_soon_0 20 rfl rfl)
theorem dX11_soon_23 : decode cX11_soon 23 = .ok (.aload_n 0, 1) := dk_42 (dk_at dksX11_soon_0 23 rfl rfl)
theorem dX11_soon_24 : decode cX11_soon 24 = .ok (.iload_n 3, 1) := dk_29 (dk_at dksX11_soon_1 0 rfl rfl)
theorem dX11_soon_25 : decode cX11_soon 25 = .ok (.iconst 0, 1) := dk_3 (dk_at dksX11_soon_1 1 rfl rfl)
theorem dX11_soon_26 : decode cX11_soon 26 = .ok (.invokevirtual 363, 3) := dk_182 1 107 (dk_at dksX11_soon_1 2 rfl rfl)
theorem dX11_soon_29 : decode cX11_soon 29 = .ok (.iload_n 1, 1) := dk_27 (dk_at dksX11_soon_1 5 rfl rfl)
theorem dX11_soon_30 : decode cX11_soon 30 = .ok (.if_icmp .ne 10, 3) := dk_160 0 10 (dk_at dksX11_soon_1 6 rfl rfl)
theorem dX11_soon_33 : decode cX11_soon 33 = .ok (.aload_n 0, 1) := dk_42 (dk_at dksX11_soon_1 9 rfl rfl)
theorem dX11_soon_34 : decode cX11_soon 34 = .ok (.iload_n 3, 1) := dk_29 (dk_at dksX11_soon_1 10 rfl rfl)
theorem dX11_soon_35 : decode cX11_soon 35 = .ok (.iconst 1, 1) := dk_4 (dk_at dksX11_soon_1 11 rfl rfl)
theorem dX11_soon_36 : decode cX11_soon 36 = .ok (.invokevirtual 363, 3) := dk_182 1 107 (dk_at dksX11_soon_1 12 rfl rfl)
theorem dX11_soon_39 : decode cX11_soon 39 = .ok (.istore_n 2, 1) := dk_61 (dk_at dksX11_soon_1 15 rfl rfl)
theorem dX11_soon_40 : decode cX11_soon 40 = .ok (.iinc 3 1, 3) := dk_132 3 1 (dk_at dksX11_soon_1 16 rfl rfl)
theorem dX11_soon_43 : decode cX11_soon 43 = .ok (.goto (-30), 3) := dk_167 255 226 (dk_at dksX11_soon_1 19 rfl rfl)
theorem dX11_soon_46 : decode cX11_soon 46 = .ok (.iload_n 2, 1) := dk_28 (dk_at dksX11_soon_1 22 rfl rfl)
theorem dX11_soon_47 : decode cX11_soon 47 = .ok (.ireturn, 1) := dk_172 (dk_at dksX11_soon_1 23 rfl rfl)
abbrev cX11_recordOf : ByteArray := prog_26_method_30_code
def yX11_recordOf : MethodName := ⟨RX11, "recordOf", "(II)I"⟩
def dkwX11_recordOf_0 : List UInt8 := [42, 180, 0, 111, 16, 16, 7, 27, 16, 31, 126, 104, 96, 28, 96, 46, 172]
abbrev dktX11_recordOf_0 : List UInt8 := dkwX11_recordOf_0 ++ []
theorem dksX11_recordOf_0 : cX11_recordOf.data.toList.drop 0 = dktX11_recordOf_0 := by decide +kernel
theorem dX11_recordOf_0 : decode cX11_recordOf 0 = .ok (.aload_n 0, 1) := dk_42 (dk_at dksX11_recordOf_0 0 rfl rfl)
theorem dX11_recordOf_1 : decode cX11_recordOf 1 = .ok (.getfield 111, 3) := dk_180 0 111 (dk_at dksX11_recordOf_0 1 rfl rfl)
theorem dX11_recordOf_4 : decode cX11_recordOf 4 = .ok (.bipush 16, 2) := dk_16 16 (dk_at dksX11_recordOf_0 4 rfl rfl)
theorem dX11_recordOf_6 : decode cX11_recordOf 6 = .ok (.iconst 4, 1) := dk_7 (dk_at dksX11_recordOf_0 6 rfl rfl)
theorem dX11_recordOf_7 : decode cX11_recordOf 7 = .ok (.iload_n 1, 1) := dk_27 (dk_at dksX11_recordOf_0 7 rfl rfl)
theorem dX11_recordOf_8 : decode cX11_recordOf 8 = .ok (.bipush 31, 2) := dk_16 31 (dk_at dksX11_recordOf_0 8 rfl rfl)
theorem dX11_recordOf_10 : decode cX11_recordOf 10 = .ok (.iand, 1) := dk_126 (dk_at dksX11_recordOf_0 10 rfl rfl)
theorem dX11_recordOf_11 : decode cX11_recordOf 11 = .ok (.imul, 1) := dk_104 (dk_at dksX11_recordOf_0 11 rfl rfl)
theorem dX11_recordOf_12 : decode cX11_recordOf 12 = .ok (.iadd, 1) := dk_96 (dk_at dksX11_recordOf_0 12 rfl rfl)
theorem dX11_recordOf_13 : decode cX11_recordOf 13 = .ok (.iload_n 2, 1) := dk_28 (dk_at dksX11_recordOf_0 13 rfl rfl)
theorem dX11_recordOf_14 : decode cX11_recordOf 14 = .ok (.iadd, 1) := dk_96 (dk_at dksX11_recordOf_0 14 rfl rfl)
theorem dX11_recordOf_15 : decode cX11_recordOf 15 = .ok (.iaload, 1) := dk_46 (dk_at dksX11_recordOf_0 15 rfl rfl)
theorem dX11_recordOf_16 : decode cX11_recordOf 16 = .ok (.ireturn, 1) := dk_172 (dk_at dksX11_recordOf_0 16 rfl rfl)
abbrev cX11_waiting : ByteArray := prog_26_method_87_code
def yX11_waiting : MethodName := ⟨RX11, "waiting", "(II)I"⟩
def dkwX11_waiting_2 : List UInt8 := [100, 27, 96, 62, 28, 154, 0, 7, 29, 167, 0, 11, 42, 29, 28, 4, 100, 182, 1, 107, 172]
abbrev dktX11_waiting_2 : List UInt8 := dkwX11_waiting_2 ++ []
def dkwX11_waiting_1 : List UInt8 := [20, 2, 71, 184, 1, 19, 154, 0, 5, 2, 172, 42, 180, 0, 111, 4, 46, 42, 180, 0, 111, 16, 11, 46]
abbrev dktX11_waiting_1 : List UInt8 := dkwX11_waiting_1 ++ dktX11_waiting_2
def dkwX11_waiting_0 : List UInt8 := [27, 133, 9, 42, 180, 0, 111, 16, 11, 46, 4, 100, 133, 184, 1, 19, 153, 0, 15, 28, 133, 9]
abbrev dktX11_waiting_0 : List UInt8 := dkwX11_waiting_0 ++ dktX11_waiting_1
theorem dksX11_waiting_0 : cX11_waiting.data.toList.drop 0 = dktX11_waiting_0 := by decide +kernel
theorem dksX11_waiting_1 : cX11_waiting.data.toList.drop 22 = dktX11_waiting_1 := dk_seg dksX11_waiting_0 22 rfl rfl
theorem dksX11_waiting_2 : cX11_waiting.data.toList.drop 46 = dktX11_waiting_2 := dk_seg dksX11_waiting_1 24 rfl rfl
theorem dX11_waiting_0 : decode cX11_waiting 0 = .ok (.iload_n 1, 1) := dk_27 (dk_at dksX11_waiting_0 0 rfl rfl)
theorem dX11_waiting_1 : decode cX11_waiting 1 = .ok (.i2l, 1) := dk_133 (dk_at dksX11_waiting_0 1 rfl rfl)
theorem dX11_waiting_2 : decode cX11_waiting 2 = .ok (.lconst 0, 1) := dk_9 (dk_at dksX11_waiting_0 2 rfl rfl)
theorem dX11_waiting_3 : decode cX11_waiting 3 = .ok (.aload_n 0, 1) := dk_42 (dk_at dksX11_waiting_0 3 rfl rfl)
theorem dX11_waiting_4 : decode cX11_waiting 4 = .ok (.getfield 111, 3) := dk_180 0 111 (dk_at dksX11_waiting_0 4 rfl rfl)
theorem dX11_waiting_7 : decode cX11_waiting 7 = .ok (.bipush 11, 2) := dk_16 11 (dk_at dksX11_waiting_0 7 rfl rfl)
theorem dX11_waiting_9 : decode cX11_waiting 9 = .ok (.iaload, 1) := dk_46 (dk_at dksX11_waiting_0 9 rfl rfl)
theorem dX11_waiting_10 : decode cX11_waiting 10 = .ok (.iconst 1, 1) := dk_4 (dk_at dksX11_waiting_0 10 rfl rfl)
theorem dX11_waiting_11 : decode cX11_waiting 11 = .ok (.isub, 1) := dk_100 (dk_at dksX11_waiting_0 11 rfl rfl)
theorem dX11_waiting_12 : decode cX11_waiting 12 = .ok (.i2l, 1) := dk_133 (dk_at dksX11_waiting_0 12 rfl rfl)
theorem dX11_waiting_13 : decode cX11_waiting 13 = .ok (.invokestatic 275, 3) := dk_184 1 19 (dk_at dksX11_waiting_0 13 rfl rfl)
theorem dX11_waiting_16 : decode cX11_waiting 16 = .ok (.ifCond .eq 15, 3) := dk_153 0 15 (dk_at dksX11_waiting_0 16 rfl rfl)
theorem dX11_waiting_19 : decode cX11_waiting 19 = .ok (.iload_n 2, 1) := dk_28 (dk_at dksX11_waiting_0 19 rfl rfl)
theorem dX11_waiting_20 : decode cX11_waiting 20 = .ok (.i2l, 1) := dk_133 (dk_at dksX11_waiting_0 20 rfl rfl)
theorem dX11_waiting_21 : decode cX11_waiting 21 = .ok (.lconst 0, 1) := dk_9 (dk_at dksX11_waiting_0 21 rfl rfl)
theorem dX11_waiting_22 : decode cX11_waiting 22 = .ok (.ldc2_w 583, 3) := dk_20 2 71 (dk_at dksX11_waiting_1 0 rfl rfl)
theorem dX11_waiting_25 : decode cX11_waiting 25 = .ok (.invokestatic 275, 3) := dk_184 1 19 (dk_at dksX11_waiting_1 3 rfl rfl)
theorem dX11_waiting_28 : decode cX11_waiting 28 = .ok (.ifCond .ne 5, 3) := dk_154 0 5 (dk_at dksX11_waiting_1 6 rfl rfl)
theorem dX11_waiting_31 : decode cX11_waiting 31 = .ok (.iconst (-1), 1) := dk_2 (dk_at dksX11_waiting_1 9 rfl rfl)
theorem dX11_waiting_32 : decode cX11_waiting 32 = .ok (.ireturn, 1) := dk_172 (dk_at dksX11_waiting_1 10 rfl rfl)
theorem dX11_waiting_33 : decode cX11_waiting 33 = .ok (.aload_n 0, 1) := dk_42 (dk_at dksX11_waiting_1 11 rfl rfl)
theorem dX11_waiting_34 : decode cX11_waiting 34 = .ok (.getfield 111, 3) := dk_180 0 111 (dk_at dksX11_waiting_1 12 rfl rfl)
theorem dX11_waiting_37 : decode cX11_waiting 37 = .ok (.iconst 1, 1) := dk_4 (dk_at dksX11_waiting_1 15 rfl rfl)
theorem dX11_waiting_38 : decode cX11_waiting 38 = .ok (.iaload, 1) := dk_46 (dk_at dksX11_waiting_1 16 rfl rfl)
theorem dX11_waiting_39 : decode cX11_waiting 39 = .ok (.aload_n 0, 1) := dk_42 (dk_at dksX11_waiting_1 17 rfl rfl)
theorem dX11_waiting_40 : decode cX11_waiting 40 = .ok (.getfield 111, 3) := dk_180 0 111 (dk_at dksX11_waiting_1 18 rfl rfl)
theorem dX11_waiting_43 : decode cX11_waiting 43 = .ok (.bipush 11, 2) := dk_16 11 (dk_at dksX11_waiting_1 21 rfl rfl)
theorem dX11_waiting_45 : decode cX11_waiting 45 = .ok (.iaload, 1) := dk_46 (dk_at dksX11_waiting_1 23 rfl rfl)
theorem dX11_waiting_46 : decode cX11_waiting 46 = .ok (.isub, 1) := dk_100 (dk_at dksX11_waiting_2 0 rfl rfl)
theorem dX11_waiting_47 : decode cX11_waiting 47 = .ok (.iload_n 1, 1) := dk_27 (dk_at dksX11_waiting_2 1 rfl rfl)
theorem dX11_waiting_48 : decode cX11_waiting 48 = .ok (.iadd, 1) := dk_96 (dk_at dksX11_waiting_2 2 rfl rfl)
theorem dX11_waiting_49 : decode cX11_waiting 49 = .ok (.istore_n 3, 1) := dk_62 (dk_at dksX11_waiting_2 3 rfl rfl)
theorem dX11_waiting_50 : decode cX11_waiting 50 = .ok (.iload_n 2, 1) := dk_28 (dk_at dksX11_waiting_2 4 rfl rfl)
theorem dX11_waiting_51 : decode cX11_waiting 51 = .ok (.ifCond .ne 7, 3) := dk_154 0 7 (dk_at dksX11_waiting_2 5 rfl rfl)
theorem dX11_waiting_54 : decode cX11_waiting 54 = .ok (.iload_n 3, 1) := dk_29 (dk_at dksX11_waiting_2 8 rfl rfl)
theorem dX11_waiting_55 : decode cX11_waiting 55 = .ok (.goto 11, 3) := dk_167 0 11 (dk_at dksX11_waiting_2 9 rfl rfl)
theorem dX11_waiting_58 : decode cX11_waiting 58 = .ok (.aload_n 0, 1) := dk_42 (dk_at dksX11_waiting_2 12 rfl rfl)
theorem dX11_waiting_59 : decode cX11_waiting 59 = .ok (.iload_n 3, 1) := dk_29 (dk_at dksX11_waiting_2 13 rfl rfl)
theorem dX11_waiting_60 : decode cX11_waiting 60 = .ok (.iload_n 2, 1) := dk_28 (dk_at dksX11_waiting_2 14 rfl rfl)
theorem dX11_waiting_61 : decode cX11_waiting 61 = .ok (.iconst 1, 1) := dk_4 (dk_at dksX11_waiting_2 15 rfl rfl)
theorem dX11_waiting_62 : decode cX11_waiting 62 = .ok (.isub, 1) := dk_100 (dk_at dksX11_waiting_2 16 rfl rfl)
theorem dX11_waiting_63 : decode cX11_waiting 63 = .ok (.invokevirtual 363, 3) := dk_182 1 107 (dk_at dksX11_waiting_2 17 rfl rfl)
theorem dX11_waiting_66 : decode cX11_waiting 66 = .ok (.ireturn, 1) := dk_172 (dk_at dksX11_waiting_2 20 rfl rfl)
abbrev cX11_waiter : ByteArray := prog_26_method_88_code
def yX11_waiter : MethodName := ⟨RX11, "waiter", "(I)I"⟩
def dkwX11_waiter_1 : List UInt8 := [17, 0, 184, 27, 96, 46, 167, 0, 4, 2, 172]
abbrev dktX11_waiter_1 : List UInt8 := dkwX11_waiter_1 ++ []
def dkwX11_waiter_0 : List UInt8 := [42, 180, 1, 84, 153, 0, 28, 27, 133, 9, 20, 2, 73, 184, 1, 19, 153, 0, 16, 42, 180, 0, 111]
abbrev dktX11_waiter_0 : List UInt8 := dkwX11_waiter_0 ++ dktX11_waiter_1
theorem dksX11_waiter_0 : cX11_waiter.data.toList.drop 0 = dktX11_waiter_0 := by decide +kernel
theorem dksX11_waiter_1 : cX11_waiter.data.toList.drop 23 = dktX11_waiter_1 := dk_seg dksX11_waiter_0 23 rfl rfl
theorem dX11_waiter_0 : decode cX11_waiter 0 = .ok (.aload_n 0, 1) := dk_42 (dk_at dksX11_waiter_0 0 rfl rfl)
theorem dX11_waiter_1 : decode cX11_waiter 1 = .ok (.getfield 340, 3) := dk_180 1 84 (dk_at dksX11_waiter_0 1 rfl rfl)
theorem dX11_waiter_4 : decode cX11_waiter 4 = .ok (.ifCond .eq 28, 3) := dk_153 0 28 (dk_at dksX11_waiter_0 4 rfl rfl)
theorem dX11_waiter_7 : decode cX11_waiter 7 = .ok (.iload_n 1, 1) := dk_27 (dk_at dksX11_waiter_0 7 rfl rfl)
theorem dX11_waiter_8 : decode cX11_waiter 8 = .ok (.i2l, 1) := dk_133 (dk_at dksX11_waiter_0 8 rfl rfl)
theorem dX11_waiter_9 : decode cX11_waiter 9 = .ok (.lconst 0, 1) := dk_9 (dk_at dksX11_waiter_0 9 rfl rfl)
theorem dX11_waiter_10 : decode cX11_waiter 10 = .ok (.ldc2_w 585, 3) := dk_20 2 73 (dk_at dksX11_waiter_0 10 rfl rfl)
theorem dX11_waiter_13 : decode cX11_waiter 13 = .ok (.invokestatic 275, 3) := dk_184 1 19 (dk_at dksX11_waiter_0 13 rfl rfl)
theorem dX11_waiter_16 : decode cX11_waiter 16 = .ok (.ifCond .eq 16, 3) := dk_153 0 16 (dk_at dksX11_waiter_0 16 rfl rfl)
theorem dX11_waiter_19 : decode cX11_waiter 19 = .ok (.aload_n 0, 1) := dk_42 (dk_at dksX11_waiter_0 19 rfl rfl)
theorem dX11_waiter_20 : decode cX11_waiter 20 = .ok (.getfield 111, 3) := dk_180 0 111 (dk_at dksX11_waiter_0 20 rfl rfl)
theorem dX11_waiter_23 : decode cX11_waiter 23 = .ok (.sipush 184, 3) := dk_17 0 184 (dk_at dksX11_waiter_1 0 rfl rfl)
theorem dX11_waiter_26 : decode cX11_waiter 26 = .ok (.iload_n 1, 1) := dk_27 (dk_at dksX11_waiter_1 3 rfl rfl)
theorem dX11_waiter_27 : decode cX11_waiter 27 = .ok (.iadd, 1) := dk_96 (dk_at dksX11_waiter_1 4 rfl rfl)
theorem dX11_waiter_28 : decode cX11_waiter 28 = .ok (.iaload, 1) := dk_46 (dk_at dksX11_waiter_1 5 rfl rfl)
theorem dX11_waiter_29 : decode cX11_waiter 29 = .ok (.goto 4, 3) := dk_167 0 4 (dk_at dksX11_waiter_1 6 rfl rfl)
theorem dX11_waiter_32 : decode cX11_waiter 32 = .ok (.iconst (-1), 1) := dk_2 (dk_at dksX11_waiter_1 9 rfl rfl)
theorem dX11_waiter_33 : decode cX11_waiter 33 = .ok (.ireturn, 1) := dk_172 (dk_at dksX11_waiter_1 10 rfl rfl)
abbrev cX11_kept : ByteArray := prog_26_method_89_code
def yX11_kept : MethodName := ⟨RX11, "kept", "(II)I"⟩
def dkwX11_kept_2 : List UInt8 := [167, 0, 4, 2, 172]
abbrev dktX11_kept_2 : List UInt8 := dkwX11_kept_2 ++ []
def dkwX11_kept_1 : List UInt8 := [20, 2, 64, 184, 1, 19, 153, 0, 20, 42, 180, 0, 111, 17, 8, 197, 6, 27, 104, 96, 28, 96, 46]
abbrev dktX11_kept_1 : List UInt8 := dkwX11_kept_1 ++ dktX11_kept_2
def dkwX11_kept_0 : List UInt8 := [27, 133, 9, 42, 180, 0, 111, 17, 8, 196, 46, 4, 100, 133, 184, 1, 19, 153, 0, 32, 28, 133, 9]
abbrev dktX11_kept_0 : List UInt8 := dkwX11_kept_0 ++ dktX11_kept_1
theorem dksX11_kept_0 : cX11_kept.data.toList.drop 0 = dktX11_kept_0 := by decide +kernel
theorem dksX11_kept_1 : cX11_kept.data.toList.drop 23 = dktX11_kept_1 := dk_seg dksX11_kept_0 23 rfl rfl
theorem dksX11_kept_2 : cX11_kept.data.toList.drop 46 = dktX11_kept_2 := dk_seg dksX11_kept_1 23 rfl rfl
theorem dX11_kept_0 : decode cX11_kept 0 = .ok (.iload_n 1, 1) := dk_27 (dk_at dksX11_kept_0 0 rfl rfl)
theorem dX11_kept_1 : decode cX11_kept 1 = .ok (.i2l, 1) := dk_133 (dk_at dksX11_kept_0 1 rfl rfl)
theorem dX11_kept_2 : decode cX11_kept 2 = .ok (.lconst 0, 1) := dk_9 (dk_at dksX11_kept_0 2 rfl rfl)
theorem dX11_kept_3 : decode cX11_kept 3 = .ok (.aload_n 0, 1) := dk_42 (dk_at dksX11_kept_0 3 rfl rfl)
theorem dX11_kept_4 : decode cX11_kept 4 = .ok (.getfield 111, 3) := dk_180 0 111 (dk_at dksX11_kept_0 4 rfl rfl)
theorem dX11_kept_7 : decode cX11_kept 7 = .ok (.sipush 2244, 3) := dk_17 8 196 (dk_at dksX11_kept_0 7 rfl rfl)
theorem dX11_kept_10 : decode cX11_kept 10 = .ok (.iaload, 1) := dk_46 (dk_at dksX11_kept_0 10 rfl rfl)
theorem dX11_kept_11 : decode cX11_kept 11 = .ok (.iconst 1, 1) := dk_4 (dk_at dksX11_kept_0 11 rfl rfl)
theorem dX11_kept_12 : decode cX11_kept 12 = .ok (.isub, 1) := dk_100 (dk_at dksX11_kept_0 12 rfl rfl)
theorem dX11_kept_13 : decode cX11_kept 13 = .ok (.i2l, 1) := dk_133 (dk_at dksX11_kept_0 13 rfl rfl)
theorem dX11_kept_14 : decode cX11_kept 14 = .ok (.invokestatic 275, 3) := dk_184 1 19 (dk_at dksX11_kept_0 14 rfl rfl)
theorem dX11_kept_17 : decode cX11_kept 17 = .ok (.ifCond .eq 32, 3) := dk_153 0 32 (dk_at dksX11_kept_0 17 rfl rfl)
theorem dX11_kept_20 : decode cX11_kept 20 = .ok (.iload_n 2, 1) := dk_28 (dk_at dksX11_kept_0 20 rfl rfl)
theorem dX11_kept_21 : decode cX11_kept 21 = .ok (.i2l, 1) := dk_133 (dk_at dksX11_kept_0 21 rfl rfl)
theorem dX11_kept_22 : decode cX11_kept 22 = .ok (.lconst 0, 1) := dk_9 (dk_at dksX11_kept_0 22 rfl rfl)
theorem dX11_kept_23 : decode cX11_kept 23 = .ok (.ldc2_w 576, 3) := dk_20 2 64 (dk_at dksX11_kept_1 0 rfl rfl)
theorem dX11_kept_26 : decode cX11_kept 26 = .ok (.invokestatic 275, 3) := dk_184 1 19 (dk_at dksX11_kept_1 3 rfl rfl)
theorem dX11_kept_29 : decode cX11_kept 29 = .ok (.ifCond .eq 20, 3) := dk_153 0 20 (dk_at dksX11_kept_1 6 rfl rfl)
theorem dX11_kept_32 : decode cX11_kept 32 = .ok (.aload_n 0, 1) := dk_42 (dk_at dksX11_kept_1 9 rfl rfl)
theorem dX11_kept_33 : decode cX11_kept 33 = .ok (.getfield 111, 3) := dk_180 0 111 (dk_at dksX11_kept_1 10 rfl rfl)
theorem dX11_kept_36 : decode cX11_kept 36 = .ok (.sipush 2245, 3) := dk_17 8 197 (dk_at dksX11_kept_1 13 rfl rfl)
theorem dX11_kept_39 : decode cX11_kept 39 = .ok (.iconst 3, 1) := dk_6 (dk_at dksX11_kept_1 16 rfl rfl)
theorem dX11_kept_40 : decode cX11_kept 40 = .ok (.iload_n 1, 1) := dk_27 (dk_at dksX11_kept_1 17 rfl rfl)
theorem dX11_kept_41 : decode cX11_kept 41 = .ok (.imul, 1) := dk_104 (dk_at dksX11_kept_1 18 rfl rfl)
theorem dX11_kept_42 : decode cX11_kept 42 = .ok (.iadd, 1) := dk_96 (dk_at dksX11_kept_1 19 rfl rfl)
theorem dX11_kept_43 : decode cX11_kept 43 = .ok (.iload_n 2, 1) := dk_28 (dk_at dksX11_kept_1 20 rfl rfl)
theorem dX11_kept_44 : decode cX11_kept 44 = .ok (.iadd, 1) := dk_96 (dk_at dksX11_kept_1 21 rfl rfl)
theorem dX11_kept_45 : decode cX11_kept 45 = .ok (.iaload, 1) := dk_46 (dk_at dksX11_kept_1 22 rfl rfl)
theorem dX11_kept_46 : decode cX11_kept 46 = .ok (.goto 4, 3) := dk_167 0 4 (dk_at dksX11_kept_2 0 rfl rfl)
theorem dX11_kept_49 : decode cX11_kept 49 = .ok (.iconst (-1), 1) := dk_2 (dk_at dksX11_kept_2 3 rfl rfl)
theorem dX11_kept_50 : decode cX11_kept 50 = .ok (.ireturn, 1) := dk_172 (dk_at dksX11_kept_2 4 rfl rfl)
abbrev cX11_later : ByteArray := prog_26_method_90_code
def yX11_later : MethodName := ⟨RX11, "later", "(II)I"⟩
def dkwX11_later_3 : List UInt8 := [182, 2, 85, 29, 172]
abbrev dktX11_later_3 : List UInt8 := dkwX11_later_3 ++ []
def dkwX11_later_2 : List UInt8 := [4, 160, 0, 13, 42, 180, 0, 111, 16, 11, 46, 167, 0, 9, 42, 180, 0, 111, 7, 46, 62, 42]
abbrev dktX11_later_2 : List UInt8 := dkwX11_later_2 ++ dktX11_later_3
def dkwX11_later_1 : List UInt8 := [172, 42, 182, 2, 79, 42, 27, 182, 2, 82, 28, 154, 0, 12, 42, 180, 0, 111, 5, 46, 167, 0, 24, 28]
abbrev dktX11_later_1 : List UInt8 := dkwX11_later_1 ++ dktX11_later_2
def dkwX11_later_0 : List UInt8 := [42, 27, 3, 16, 100, 182, 2, 75, 153, 0, 15, 28, 133, 9, 20, 2, 64, 184, 1, 19, 154, 0, 5, 2]
abbrev dktX11_later_0 : List UInt8 := dkwX11_later_0 ++ dktX11_later_1
theorem dksX11_later_0 : cX11_later.data.toList.drop 0 = dktX11_later_0 := by decide +kernel
theorem dksX11_later_1 : cX11_later.data.toList.drop 24 = dktX11_later_1 := dk_seg dksX11_later_0 24 rfl rfl
theorem dksX11_later_2 : cX11_later.data.toList.drop 48 = dktX11_later_2 := dk_seg dksX11_later_1 24 rfl rfl
theorem dksX11_later_3 : cX11_later.data.toList.drop 70 = dktX11_later_3 := dk_seg dksX11_later_2 22 rfl rfl
theorem dX11_later_0 : decode cX11_later 0 = .ok (.aload_n 0, 1) := dk_42 (dk_at dksX11_later_0 0 rfl rfl)
theorem dX11_later_1 : decode cX11_later 1 = .ok (.iload_n 1, 1) := dk_27 (dk_at dksX11_later_0 1 rfl rfl)
theorem dX11_later_2 : decode cX11_later 2 = .ok (.iconst 0, 1) := dk_3 (dk_at dksX11_later_0 2 rfl rfl)
theorem dX11_later_3 : decode cX11_later 3 = .ok (.bipush 100, 2) := dk_16 100 (dk_at dksX11_later_0 3 rfl rfl)
theorem dX11_later_5 : decode cX11_later 5 = .ok (.invokevirtual 587, 3) := dk_182 2 75 (dk_at dksX11_later_0 5 rfl rfl)
theorem dX11_later_8 : decode cX11_later 8 = .ok (.ifCond .eq 15, 3) := dk_153 0 15 (dk_at dksX11_later_0 8 rfl rfl)
theorem dX11_later_11 : decode cX11_later 11 = .ok (.iload_n 2, 1) := dk_28 (dk_at dksX11_later_0 11 rfl rfl)
theorem dX11_later_12 : decode cX11_later 12 = .ok (.i2l, 1) := dk_133 (dk_at dksX11_later_0 12 rfl rfl)
theorem dX11_later_13 : decode cX11_later 13 = .ok (.lconst 0, 1) := dk_9 (dk_at dksX11_later_0 13 rfl rfl)
theorem dX11_later_14 : decode cX11_later 14 = .ok (.ldc2_w 576, 3) := dk_20 2 64 (dk_at dksX11_later_0 14 rfl rfl)
theorem dX11_later_17 : decode cX11_later 17 = .ok (.invokestatic 275, 3) := dk_184 1 19 (dk_at dksX11_later_0 17 rfl rfl)
theorem dX11_later_20 : decode cX11_later 20 = .ok (.ifCond .ne 5, 3) := dk_154 0 5 (dk_at dksX11_later_0 20 rfl rfl)
theorem dX11_later_23 : decode cX11_later 23 = .ok (.iconst (-1), 1) := dk_2 (dk_at dksX11_later_0 23 rfl rfl)
theorem dX11_later_24 : decode cX11_later 24 = .ok (.ireturn, 1) := dk_172 (dk_at dksX11_later_1 0 rfl rfl)
theorem dX11_later_25 : decode cX11_later 25 = .ok (.aload_n 0, 1) := dk_42 (dk_at dksX11_later_1 1 rfl rfl)
theorem dX11_later_26 : decode cX11_later 26 = .ok (.invokevirtual 591, 3) := dk_182 2 79 (dk_at dksX11_later_1 2 rfl rfl)
theorem dX11_later_29 : decode cX11_later 29 = .ok (.aload_n 0, 1) := dk_42 (dk_at dksX11_later_1 5 rfl rfl)
theorem dX11_later_30 : decode cX11_later 30 = .ok (.iload_n 1, 1) := dk_27 (dk_at dksX11_later_1 6 rfl rfl)
theorem dX11_later_31 : decode cX11_later 31 = .ok (.invokevirtual 594, 3) := dk_182 2 82 (dk_at dksX11_later_1 7 rfl rfl)
theorem dX11_later_34 : decode cX11_later 34 = .ok (.iload_n 2, 1) := dk_28 (dk_at dksX11_later_1 10 rfl rfl)
theorem dX11_later_35 : decode cX11_later 35 = .ok (.ifCond .ne 12, 3) := dk_154 0 12 (dk_at dksX11_later_1 11 rfl rfl)
theorem dX11_later_38 : decode cX11_later 38 = .ok (.aload_n 0, 1) := dk_42 (dk_at dksX11_later_1 14 rfl rfl)
theorem dX11_later_39 : decode cX11_later 39 = .ok (.getfield 111, 3) := dk_180 0 111 (dk_at dksX11_later_1 15 rfl rfl)
theorem dX11_later_42 : decode cX11_later 42 = .ok (.iconst 2, 1) := dk_5 (dk_at dksX11_later_1 18 rfl rfl)
theorem dX11_later_43 : decode cX11_later 43 = .ok (.iaload, 1) := dk_46 (dk_at dksX11_later_1 19 rfl rfl)
theorem dX11_later_44 : decode cX11_later 44 = .ok (.goto 24, 3) := dk_167 0 24 (dk_at dksX11_later_1 20 rfl rfl)
theorem dX11_later_47 : decode cX11_later 47 = .ok (.iload_n 2, 1) := dk_28 (dk_at dksX11_later_1 23 rfl rfl)
theorem dX11_later_48 : decode cX11_later 48 = .ok (.iconst 1, 1) := dk_4 (dk_at dksX11_later_2 0 rfl rfl)
theorem dX11_later_49 : decode cX11_later 49 = .ok (.if_icmp .ne 13, 3) := dk_160 0 13 (dk_at dksX11_later_2 1 rfl rfl)
theorem dX11_later_52 : decode cX11_later 52 = .ok (.aload_n 0, 1) := dk_42 (dk_at dksX11_later_2 4 rfl rfl)
theorem dX11_later_53 : decode cX11_later 53 = .ok (.getfield 111, 3) := dk_180 0 111 (dk_at dksX11_later_2 5 rfl rfl)
theorem dX11_later_56 : decode cX11_later 56 = .ok (.bipush 11, 2) := dk_16 11 (dk_at dksX11_later_2 8 rfl rfl)
theorem dX11_later_58 : decode cX11_later 58 = .ok (.iaload, 1) := dk_46 (dk_at dksX11_later_2 10 rfl rfl)
theorem dX11_later_59 : decode cX11_later 59 = .ok (.goto 9, 3) := dk_167 0 9 (dk_at dksX11_later_2 11 rfl rfl)
theorem dX11_later_62 : decode cX11_later 62 = .ok (.aload_n 0, 1) := dk_42 (dk_at dksX11_later_2 14 rfl rfl)
theorem dX11_later_63 : decode cX11_later 63 = .ok (.getfield 111, 3) := dk_180 0 111 (dk_at dksX11_later_2 15 rfl rfl)
theorem dX11_later_66 : decode cX11_later 66 = .ok (.iconst 4, 1) := dk_7 (dk_at dksX11_later_2 18 rfl rfl)
theorem dX11_later_67 : decode cX11_later 67 = .ok (.iaload, 1) := dk_46 (dk_at dksX11_later_2 19 rfl rfl)
theorem dX11_later_68 : decode cX11_later 68 = .ok (.istore_n 3, 1) := dk_62 (dk_at dksX11_later_2 20 rfl rfl)
theorem dX11_later_69 : decode cX11_later 69 = .ok (.aload_n 0, 1) := dk_42 (dk_at dksX11_later_2 21 rfl rfl)
theorem dX11_later_70 : decode cX11_later 70 = .ok (.invokevirtual 597, 3) := dk_182 2 85 (dk_at dksX11_later_3 0 rfl rfl)
theorem dX11_later_73 : decode cX11_later 73 = .ok (.iload_n 3, 1) := dk_29 (dk_at dksX11_later_3 3 rfl rfl)
theorem dX11_later_74 : decode cX11_later 74 = .ok (.ireturn, 1) := dk_172 (dk_at dksX11_later_3 4 rfl rfl)
abbrev cX11_isAhead : ByteArray := prog_26_method_61_code
def yX11_isAhead : MethodName := ⟨RX11, "isAhead", "(III)Z"⟩
def dkwX11_isAhead_1 : List UInt8 := [46, 27, 96, 17, 3, 231, 163, 0, 7, 4, 167, 0, 4, 3, 172]
abbrev dktX11_isAhead_1 : List UInt8 := dkwX11_isAhead_1 ++ []
def dkwX11_isAhead_0 : List UInt8 := [42, 180, 1, 84, 153, 0, 33, 27, 133, 28, 133, 29, 133, 184, 1, 19, 153, 0, 21, 42, 180, 0, 111, 3]
abbrev dktX11_isAhead_0 : List UInt8 := dkwX11_isAhead_0 ++ dktX11_isAhead_1
theorem dksX11_isAhead_0 : cX11_isAhead.data.toList.drop 0 = dktX11_isAhead_0 := by decide +kernel
theorem dksX11_isAhead_1 : cX11_isAhead.data.toList.drop 24 = dktX11_isAhead_1 := dk_seg dksX11_isAhead_0 24 rfl rfl
theorem dX11_isAhead_0 : decode cX11_isAhead 0 = .ok (.aload_n 0, 1) := dk_42 (dk_at dksX11_isAhead_0 0 rfl rfl)
theorem dX11_isAhead_1 : decode cX11_isAhead 1 = .ok (.getfield 340, 3) := dk_180 1 84 (dk_at dksX11_isAhead_0 1 rfl rfl)
theorem dX11_isAhead_4 : decode cX11_isAhead 4 = .ok (.ifCond .eq 33, 3) := dk_153 0 33 (dk_at dksX11_isAhead_0 4 rfl rfl)
theorem dX11_isAhead_7 : decode cX11_isAhead 7 = .ok (.iload_n 1, 1) := dk_27 (dk_at dksX11_isAhead_0 7 rfl rfl)
theorem dX11_isAhead_8 : decode cX11_isAhead 8 = .ok (.i2l, 1) := dk_133 (dk_at dksX11_isAhead_0 8 rfl rfl)
theorem dX11_isAhead_9 : decode cX11_isAhead 9 = .ok (.iload_n 2, 1) := dk_28 (dk_at dksX11_isAhead_0 9 rfl rfl)
theorem dX11_isAhead_10 : decode cX11_isAhead 10 = .ok (.i2l, 1) := dk_133 (dk_at dksX11_isAhead_0 10 rfl rfl)
theorem dX11_isAhead_11 : decode cX11_isAhead 11 = .ok (.iload_n 3, 1) := dk_29 (dk_at dksX11_isAhead_0 11 rfl rfl)
theorem dX11_isAhead_12 : decode cX11_isAhead 12 = .ok (.i2l, 1) := dk_133 (dk_at dksX11_isAhead_0 12 rfl rfl)
theorem dX11_isAhead_13 : decode cX11_isAhead 13 = .ok (.invokestatic 275, 3) := dk_184 1 19 (dk_at dksX11_isAhead_0 13 rfl rfl)
theorem dX11_isAhead_16 : decode cX11_isAhead 16 = .ok (.ifCond .eq 21, 3) := dk_153 0 21 (dk_at dksX11_isAhead_0 16 rfl rfl)
theorem dX11_isAhead_19 : decode cX11_isAhead 19 = .ok (.aload_n 0, 1) := dk_42 (dk_at dksX11_isAhead_0 19 rfl rfl)
theorem dX11_isAhead_20 : decode cX11_isAhead 20 = .ok (.getfield 111, 3) := dk_180 0 111 (dk_at dksX11_isAhead_0 20 rfl rfl)
theorem dX11_isAhead_23 : decode cX11_isAhead 23 = .ok (.iconst 0, 1) := dk_3 (dk_at dksX11_isAhead_0 23 rfl rfl)
theorem dX11_isAhead_24 : decode cX11_isAhead 24 = .ok (.iaload, 1) := dk_46 (dk_at dksX11_isAhead_1 0 rfl rfl)
theorem dX11_isAhead_25 : decode cX11_isAhead 25 = .ok (.iload_n 1, 1) := dk_27 (dk_at dksX11_isAhead_1 1 rfl rfl)
theorem dX11_isAhead_26 : decode cX11_isAhead 26 = .ok (.iadd, 1) := dk_96 (dk_at dksX11_isAhead_1 2 rfl rfl)
theorem dX11_isAhead_27 : decode cX11_isAhead 27 = .ok (.sipush 999, 3) := dk_17 3 231 (dk_at dksX11_isAhead_1 3 rfl rfl)
theorem dX11_isAhead_30 : decode cX11_isAhead 30 = .ok (.if_icmp .gt 7, 3) := dk_163 0 7 (dk_at dksX11_isAhead_1 6 rfl rfl)
theorem dX11_isAhead_33 : decode cX11_isAhead 33 = .ok (.iconst 1, 1) := dk_4 (dk_at dksX11_isAhead_1 9 rfl rfl)
theorem dX11_isAhead_34 : decode cX11_isAhead 34 = .ok (.goto 4, 3) := dk_167 0 4 (dk_at dksX11_isAhead_1 10 rfl rfl)
theorem dX11_isAhead_37 : decode cX11_isAhead 37 = .ok (.iconst 0, 1) := dk_3 (dk_at dksX11_isAhead_1 13 rfl rfl)
theorem dX11_isAhead_38 : decode cX11_isAhead 38 = .ok (.ireturn, 1) := dk_172 (dk_at dksX11_isAhead_1 14 rfl rfl)
abbrev cX11_putsAside : ByteArray := prog_26_method_58_code
def yX11_putsAside : MethodName := ⟨RX11, "putsAside", "()V"⟩
def dkwX11_putsAside_1 : List UInt8 := [46, 79, 132, 1, 1, 167, 255, 234, 177]
abbrev dktX11_putsAside_1 : List UInt8 := dkwX11_putsAside_1 ++ []
def dkwX11_putsAside_0 : List UInt8 := [42, 4, 181, 1, 211, 3, 60, 27, 17, 8, 196, 162, 0, 21, 42, 180, 0, 123, 27, 42, 180, 0, 111, 27]
abbrev dktX11_putsAside_0 : List UInt8 := dkwX11_putsAside_0 ++ dktX11_putsAside_1
theorem dksX11_putsAside_0 : cX11_putsAside.data.toList.drop 0 = dktX11_putsAside_0 := by decide +kernel
theorem dksX11_putsAside_1 : cX11_putsAside.data.toList.drop 24 = dktX11_putsAside_1 := dk_seg dksX11_putsAside_0 24 rfl rfl
theorem dX11_putsAside_0 : decode cX11_putsAside 0 = .ok (.aload_n 0, 1) := dk_42 (dk_at dksX11_putsAside_0 0 rfl rfl)
theorem dX11_putsAside_1 : decode cX11_putsAside 1 = .ok (.iconst 1, 1) := dk_4 (dk_at dksX11_putsAside_0 1 rfl rfl)
theorem dX11_putsAside_2 : decode cX11_putsAside 2 = .ok (.putfield 467, 3) := dk_181 1 211 (dk_at dksX11_putsAside_0 2 rfl rfl)
theorem dX11_putsAside_5 : decode cX11_putsAside 5 = .ok (.iconst 0, 1) := dk_3 (dk_at dksX11_putsAside_0 5 rfl rfl)
theorem dX11_putsAside_6 : decode cX11_putsAside 6 = .ok (.istore_n 1, 1) := dk_60 (dk_at dksX11_putsAside_0 6 rfl rfl)
theorem dX11_putsAside_7 : decode cX11_putsAside 7 = .ok (.iload_n 1, 1) := dk_27 (dk_at dksX11_putsAside_0 7 rfl rfl)
theorem dX11_putsAside_8 : decode cX11_putsAside 8 = .ok (.sipush 2244, 3) := dk_17 8 196 (dk_at dksX11_putsAside_0 8 rfl rfl)
theorem dX11_putsAside_11 : decode cX11_putsAside 11 = .ok (.if_icmp .ge 21, 3) := dk_162 0 21 (dk_at dksX11_putsAside_0 11 rfl rfl)
theorem dX11_putsAside_14 : decode cX11_putsAside 14 = .ok (.aload_n 0, 1) := dk_42 (dk_at dksX11_putsAside_0 14 rfl rfl)
theorem dX11_putsAside_15 : decode cX11_putsAside 15 = .ok (.getfield 123, 3) := dk_180 0 123 (dk_at dksX11_putsAside_0 15 rfl rfl)
theorem dX11_putsAside_18 : decode cX11_putsAside 18 = .ok (.iload_n 1, 1) := dk_27 (dk_at dksX11_putsAside_0 18 rfl rfl)
theorem dX11_putsAside_19 : decode cX11_putsAside 19 = .ok (.aload_n 0, 1) := dk_42 (dk_at dksX11_putsAside_0 19 rfl rfl)
theorem dX11_putsAside_20 : decode cX11_putsAside 20 = .ok (.getfield 111, 3) := dk_180 0 111 (dk_at dksX11_putsAside_0 20 rfl rfl)
theorem dX11_putsAside_23 : decode cX11_putsAside 23 = .ok (.iload_n 1, 1) := dk_27 (dk_at dksX11_putsAside_0 23 rfl rfl)
theorem dX11_putsAside_24 : decode cX11_putsAside 24 = .ok (.iaload, 1) := dk_46 (dk_at dksX11_putsAside_1 0 rfl rfl)
theorem dX11_putsAside_25 : decode cX11_putsAside 25 = .ok (.iastore, 1) := dk_79 (dk_at dksX11_putsAside_1 1 rfl rfl)
theorem dX11_putsAside_26 : decode cX11_putsAside 26 = .ok (.iinc 1 1, 3) := dk_132 1 1 (dk_at dksX11_putsAside_1 2 rfl rfl)
theorem dX11_putsAside_29 : decode cX11_putsAside 29 = .ok (.goto (-22), 3) := dk_167 255 234 (dk_at dksX11_putsAside_1 5 rfl rfl)
theorem dX11_putsAside_32 : decode cX11_putsAside 32 = .ok (.return_, 1) := dk_177 (dk_at dksX11_putsAside_1 8 rfl rfl)
abbrev cX11_ticksGo : ByteArray := prog_26_method_57_code
def yX11_ticksGo : MethodName := ⟨RX11, "ticksGo", "(I)V"⟩
def dkwX11_ticksGo_0 : List UInt8 := [42, 3, 181, 1, 208, 3, 61, 28, 27, 162, 0, 13, 42, 182, 1, 232, 132, 2, 1, 167, 255, 244, 177]
abbrev dktX11_ticksGo_0 : List UInt8 := dkwX11_ticksGo_0 ++ []
theorem dksX11_ticksGo_0 : cX11_ticksGo.data.toList.drop 0 = dktX11_ticksGo_0 := by decide +kernel
theorem dX11_ticksGo_0 : decode cX11_ticksGo 0 = .ok (.aload_n 0, 1) := dk_42 (dk_at dksX11_ticksGo_0 0 rfl rfl)
theorem dX11_ticksGo_1 : decode cX11_ticksGo 1 = .ok (.iconst 0, 1) := dk_3 (dk_at dksX11_ticksGo_0 1 rfl rfl)
theorem dX11_ticksGo_2 : decode cX11_ticksGo 2 = .ok (.putfield 464, 3) := dk_181 1 208 (dk_at dksX11_ticksGo_0 2 rfl rfl)
theorem dX11_ticksGo_5 : decode cX11_ticksGo 5 = .ok (.iconst 0, 1) := dk_3 (dk_at dksX11_ticksGo_0 5 rfl rfl)
theorem dX11_ticksGo_6 : decode cX11_ticksGo 6 = .ok (.istore_n 2, 1) := dk_61 (dk_at dksX11_ticksGo_0 6 rfl rfl)
theorem dX11_ticksGo_7 : decode cX11_ticksGo 7 = .ok (.iload_n 2, 1) := dk_28 (dk_at dksX11_ticksGo_0 7 rfl rfl)
theorem dX11_ticksGo_8 : decode cX11_ticksGo 8 = .ok (.iload_n 1, 1) := dk_27 (dk_at dksX11_ticksGo_0 8 rfl rfl)
theorem dX11_ticksGo_9 : decode cX11_ticksGo 9 = .ok (.if_icmp .ge 13, 3) := dk_162 0 13 (dk_at dksX11_ticksGo_0 9 rfl rfl)
theorem dX11_ticksGo_12 : decode cX11_ticksGo 12 = .ok (.aload_n 0, 1) := dk_42 (dk_at dksX11_ticksGo_0 12 rfl rfl)
theorem dX11_ticksGo_13 : decode cX11_ticksGo 13 = .ok (.invokevirtual 488, 3) := dk_182 1 232 (dk_at dksX11_ticksGo_0 13 rfl rfl)
theorem dX11_ticksGo_16 : decode cX11_ticksGo 16 = .ok (.iinc 2 1, 3) := dk_132 2 1 (dk_at dksX11_ticksGo_0 16 rfl rfl)
theorem dX11_ticksGo_19 : decode cX11_ticksGo 19 = .ok (.goto (-12), 3) := dk_167 255 244 (dk_at dksX11_ticksGo_0 19 rfl rfl)
theorem dX11_ticksGo_22 : decode cX11_ticksGo 22 = .ok (.return_, 1) := dk_177 (dk_at dksX11_ticksGo_0 22 rfl rfl)
abbrev cX11_tickGoes : ByteArray := prog_26_method_56_code
def yX11_tickGoes : MethodName := ⟨RX11, "tickGoes", "()V"⟩
def dkwX11_tickGoes_6 : List UInt8 := [154, 0, 7, 42, 182, 1, 229, 42, 180, 0, 111, 3, 92, 46, 4, 96, 79, 177]
abbrev dktX11_tickGoes_6 : List UInt8 := dkwX11_tickGoes_6 ++ []
def dkwX11_tickGoes_5 : List UInt8 := [96, 79, 42, 89, 180, 1, 226, 42, 180, 1, 217, 96, 181, 1, 226, 167, 255, 169, 42, 180, 0, 111, 7, 46]
abbrev dktX11_tickGoes_5 : List UInt8 := dkwX11_tickGoes_5 ++ dktX11_tickGoes_6
def dkwX11_tickGoes_4 : List UInt8 := [46, 4, 182, 1, 107, 79, 42, 42, 180, 0, 111, 5, 46, 182, 1, 223, 42, 180, 0, 111, 5, 92, 46, 4]
abbrev dktX11_tickGoes_4 : List UInt8 := dkwX11_tickGoes_4 ++ dktX11_tickGoes_5
def dkwX11_tickGoes_3 : List UInt8 := [180, 0, 111, 17, 0, 144, 42, 42, 180, 0, 111, 5, 46, 3, 182, 1, 107, 96, 42, 42, 180, 0, 111, 5]
abbrev dktX11_tickGoes_3 : List UInt8 := dkwX11_tickGoes_3 ++ dktX11_tickGoes_4
def dkwX11_tickGoes_2 : List UInt8 := [42, 180, 0, 111, 5, 46, 42, 180, 0, 111, 4, 46, 42, 180, 0, 111, 16, 11, 46, 100, 162, 0, 70, 42]
abbrev dktX11_tickGoes_2 : List UInt8 := dkwX11_tickGoes_2 ++ dktX11_tickGoes_3
def dkwX11_tickGoes_1 : List UInt8 := [92, 46, 4, 100, 79, 42, 180, 0, 111, 6, 46, 154, 0, 103, 42, 42, 180, 0, 111, 7, 46, 182, 1, 220]
abbrev dktX11_tickGoes_1 : List UInt8 := dkwX11_tickGoes_1 ++ dktX11_tickGoes_2
def dkwX11_tickGoes_0 : List UInt8 := [42, 89, 180, 1, 217, 4, 96, 181, 1, 217, 42, 180, 0, 111, 7, 46, 158, 0, 122, 42, 180, 0, 111, 6]
abbrev dktX11_tickGoes_0 : List UInt8 := dkwX11_tickGoes_0 ++ dktX11_tickGoes_1
theorem dksX11_tickGoes_0 : cX11_tickGoes.data.toList.drop 0 = dktX11_tickGoes_0 := by decide +kernel
theorem dksX11_tickGoes_1 : cX11_tickGoes.data.toList.drop 24 = dktX11_tickGoes_1 := dk_seg dksX11_tickGoes_0 24 rfl rfl
theorem dksX11_tickGoes_2 : cX11_tickGoes.data.toList.drop 48 = dktX11_tickGoes_2 := dk_seg dksX11_tickGoes_1 24 rfl rfl
theorem dksX11_tickGoes_3 : cX11_tickGoes.data.toList.drop 72 = dktX11_tickGoes_3 := dk_seg dksX11_tickGoes_2 24 rfl rfl
theorem dksX11_tickGoes_4 : cX11_tickGoes.data.toList.drop 96 = dktX11_tickGoes_4 := dk_seg dksX11_tickGoes_3 24 rfl rfl
theorem dksX11_tickGoes_5 : cX11_tickGoes.data.toList.drop 120 = dktX11_tickGoes_5 := dk_seg dksX11_tickGoes_4 24 rfl rfl
theorem dksX11_tickGoes_6 : cX11_tickGoes.data.toList.drop 144 = dktX11_tickGoes_6 := dk_seg dksX11_tickGoes_5 24 rfl rfl
theorem dX11_tickGoes_0 : decode cX11_tickGoes 0 = .ok (.aload_n 0, 1) := dk_42 (dk_at dksX11_tickGoes_0 0 rfl rfl)
theorem dX11_tickGoes_1 : decode cX11_tickGoes 1 = .ok (.dup, 1) := dk_89 (dk_at dksX11_tickGoes_0 1 rfl rfl)
theorem dX11_tickGoes_2 : decode cX11_tickGoes 2 = .ok (.getfield 473, 3) := dk_180 1 217 (dk_at dksX11_tickGoes_0 2 rfl rfl)
theorem dX11_tickGoes_5 : decode cX11_tickGoes 5 = .ok (.iconst 1, 1) := dk_4 (dk_at dksX11_tickGoes_0 5 rfl rfl)
theorem dX11_tickGoes_6 : decode cX11_tickGoes 6 = .ok (.iadd, 1) := dk_96 (dk_at dksX11_tickGoes_0 6 rfl rfl)
theorem dX11_tickGoes_7 : decode cX11_tickGoes 7 = .ok (.putfield 473, 3) := dk_181 1 217 (dk_at dksX11_tickGoes_0 7 rfl rfl)
theorem dX11_tickGoes_10 : decode cX11_tickGoes 10 = .ok (.aload_n 0, 1) := dk_42 (dk_at dksX11_tickGoes_0 10 rfl rfl)
theorem dX11_tickGoes_11 : decode cX11_tickGoes 11 = .ok (.getfield 111, 3) := dk_180 0 111 (dk_at dksX11_tickGoes_0 11 rfl rfl)
theorem dX11_tickGoes_14 : decode cX11_tickGoes 14 = .ok (.iconst 4, 1) := dk_7 (dk_at dksX11_tickGoes_0 14 rfl rfl)
theorem dX11_tickGoes_15 : decode cX11_tickGoes 15 = .ok (.iaload, 1) := dk_46 (dk_at dksX11_tickGoes_0 15 rfl rfl)
theorem dX11_tickGoes_16 : decode cX11_tickGoes 16 = .ok (.ifCond .le 122, 3) := dk_158 0 122 (dk_at dksX11_tickGoes_0 16 rfl rfl)
theorem dX11_tickGoes_19 : decode cX11_tickGoes 19 = .ok (.aload_n 0, 1) := dk_42 (dk_at dksX11_tickGoes_0 19 rfl rfl)
theorem dX11_tickGoes_20 : decode cX11_tickGoes 20 = .ok (.getfield 111, 3) := dk_180 0 111 (dk_at dksX11_tickGoes_0 20 rfl rfl)
theorem dX11_tickGoes_23 : decode cX11_tickGoes 23 = .ok (.iconst 3, 1) := dk_6 (dk_at dksX11_tickGoes_0 23 rfl rfl)
theorem dX11_tickGoes_24 : decode cX11_tickGoes 24 = .ok (.dup2, 1) := dk_92 (dk_at dksX11_tickGoes_1 0 rfl rfl)
theorem dX11_tickGoes_25 : decode cX11_tickGoes 25 = .ok (.iaload, 1) := dk_46 (dk_at dksX11_tickGoes_1 1 rfl rfl)
theorem dX11_tickGoes_26 : decode cX11_tickGoes 26 = .ok (.iconst 1, 1) := dk_4 (dk_at dksX11_tickGoes_1 2 rfl rfl)
theorem dX11_tickGoes_27 : decode cX11_tickGoes 27 = .ok (.isub, 1) := dk_100 (dk_at dksX11_tickGoes_1 3 rfl rfl)
theorem dX11_tickGoes_28 : decode cX11_tickGoes 28 = .ok (.iastore, 1) := dk_79 (dk_at dksX11_tickGoes_1 4 rfl rfl)
theorem dX11_tickGoes_29 : decode cX11_tickGoes 29 = .ok (.aload_n 0, 1) := dk_42 (dk_at dksX11_tickGoes_1 5 rfl rfl)
theorem dX11_tickGoes_30 : decode cX11_tickGoes 30 = .ok (.getfield 111, 3) := dk_180 0 111 (dk_at dksX11_tickGoes_1 6 rfl rfl)
theorem dX11_tickGoes_33 : decode cX11_tickGoes 33 = .ok (.iconst 3, 1) := dk_6 (dk_at dksX11_tickGoes_1 9 rfl rfl)
theorem dX11_tickGoes_34 : decode cX11_tickGoes 34 = .ok (.iaload, 1) := dk_46 (dk_at dksX11_tickGoes_1 10 rfl rfl)
theorem dX11_tickGoes_35 : decode cX11_tickGoes 35 = .ok (.ifCond .ne 103, 3) := dk_154 0 103 (dk_at dksX11_tickGoes_1 11 rfl rfl)
theorem dX11_tickGoes_38 : decode cX11_tickGoes 38 = .ok (.aload_n 0, 1) := dk_42 (dk_at dksX11_tickGoes_1 14 rfl rfl)
theorem dX11_tickGoes_39 : decode cX11_tickGoes 39 = .ok (.aload_n 0, 1) := dk_42 (dk_at dksX11_tickGoes_1 15 rfl rfl)
theorem dX11_tickGoes_40 : decode cX11_tickGoes 40 = .ok (.getfield 111, 3) := dk_180 0 111 (dk_at dksX11_tickGoes_1 16 rfl rfl)
theorem dX11_tickGoes_43 : decode cX11_tickGoes 43 = .ok (.iconst 4, 1) := dk_7 (dk_at dksX11_tickGoes_1 19 rfl rfl)
theorem dX11_tickGoes_44 : decode cX11_tickGoes 44 = .ok (.iaload, 1) := dk_46 (dk_at dksX11_tickGoes_1 20 rfl rfl)
theorem dX11_tickGoes_45 : decode cX11_tickGoes 45 = .ok (.invokevirtual 476, 3) := dk_182 1 220 (dk_at dksX11_tickGoes_1 21 rfl rfl)
theorem dX11_tickGoes_48 : decode cX11_tickGoes 48 = .ok (.aload_n 0, 1) := dk_42 (dk_at dksX11_tickGoes_2 0 rfl rfl)
theorem dX11_tickGoes_49 : decode cX11_tickGoes 49 = .ok (.getfield 111, 3) := dk_180 0 111 (dk_at dksX11_tickGoes_2 1 rfl rfl)
theorem dX11_tickGoes_52 : decode cX11_tickGoes 52 = .ok (.iconst 2, 1) := dk_5 (dk_at dksX11_tickGoes_2 4 rfl rfl)
theorem dX11_tickGoes_53 : decode cX11_tickGoes 53 = .ok (.iaload, 1) := dk_46 (dk_at dksX11_tickGoes_2 5 rfl rfl)
theorem dX11_tickGoes_54 : decode cX11_tickGoes 54 = .ok (.aload_n 0, 1) := dk_42 (dk_at dksX11_tickGoes_2 6 rfl rfl)
theorem dX11_tickGoes_55 : decode cX11_tickGoes 55 = .ok (.getfield 111, 3) := dk_180 0 111 (dk_at dksX11_tickGoes_2 7 rfl rfl)
theorem dX11_tickGoes_58 : decode cX11_tickGoes 58 = .ok (.iconst 1, 1) := dk_4 (dk_at dksX11_tickGoes_2 10 rfl rfl)
theorem dX11_tickGoes_59 : decode cX11_tickGoes 59 = .ok (.iaload, 1) := dk_46 (dk_at dksX11_tickGoes_2 11 rfl rfl)
theorem dX11_tickGoes_60 : decode cX11_tickGoes 60 = .ok (.aload_n 0, 1) := dk_42 (dk_at dksX11_tickGoes_2 12 rfl rfl)
theorem dX11_tickGoes_61 : decode cX11_tickGoes 61 = .ok (.getfield 111, 3) := dk_180 0 111 (dk_at dksX11_tickGoes_2 13 rfl rfl)
theorem dX11_tickGoes_64 : decode cX11_tickGoes 64 = .ok (.bipush 11, 2) := dk_16 11 (dk_at dksX11_tickGoes_2 16 rfl rfl)
theorem dX11_tickGoes_66 : decode cX11_tickGoes 66 = .ok (.iaload, 1) := dk_46 (dk_at dksX11_tickGoes_2 18 rfl rfl)
theorem dX11_tickGoes_67 : decode cX11_tickGoes 67 = .ok (.isub, 1) := dk_100 (dk_at dksX11_tickGoes_2 19 rfl rfl)
theorem dX11_tickGoes_68 : decode cX11_tickGoes 68 = .ok (.if_icmp .ge 70, 3) := dk_162 0 70 (dk_at dksX11_tickGoes_2 20 rfl rfl)
theorem dX11_tickGoes_71 : decode cX11_tickGoes 71 = .ok (.aload_n 0, 1) := dk_42 (dk_at dksX11_tickGoes_2 23 rfl rfl)
theorem dX11_tickGoes_72 : decode cX11_tickGoes 72 = .ok (.getfield 111, 3) := dk_180 0 111 (dk_at dksX11_tickGoes_3 0 rfl rfl)
theorem dX11_tickGoes_75 : decode cX11_tickGoes 75 = .ok (.sipush 144, 3) := dk_17 0 144 (dk_at dksX11_tickGoes_3 3 rfl rfl)
theorem dX11_tickGoes_78 : decode cX11_tickGoes 78 = .ok (.aload_n 0, 1) := dk_42 (dk_at dksX11_tickGoes_3 6 rfl rfl)
theorem dX11_tickGoes_79 : decode cX11_tickGoes 79 = .ok (.aload_n 0, 1) := dk_42 (dk_at dksX11_tickGoes_3 7 rfl rfl)
theorem dX11_tickGoes_80 : decode cX11_tickGoes 80 = .ok (.getfield 111, 3) := dk_180 0 111 (dk_at dksX11_tickGoes_3 8 rfl rfl)
theorem dX11_tickGoes_83 : decode cX11_tickGoes 83 = .ok (.iconst 2, 1) := dk_5 (dk_at dksX11_tickGoes_3 11 rfl rfl)
theorem dX11_tickGoes_84 : decode cX11_tickGoes 84 = .ok (.iaload, 1) := dk_46 (dk_at dksX11_tickGoes_3 12 rfl rfl)
theorem dX11_tickGoes_85 : decode cX11_tickGoes 85 = .ok (.iconst 0, 1) := dk_3 (dk_at dksX11_tickGoes_3 13 rfl rfl)
theorem dX11_tickGoes_86 : decode cX11_tickGoes 86 = .ok (.invokevirtual 363, 3) := dk_182 1 107 (dk_at dksX11_tickGoes_3 14 rfl rfl)
theorem dX11_tickGoes_89 : decode cX11_tickGoes 89 = .ok (.iadd, 1) := dk_96 (dk_at dksX11_tickGoes_3 17 rfl rfl)
theorem dX11_tickGoes_90 : decode cX11_tickGoes 90 = .ok (.aload_n 0, 1) := dk_42 (dk_at dksX11_tickGoes_3 18 rfl rfl)
theorem dX11_tickGoes_91 : decode cX11_tickGoes 91 = .ok (.aload_n 0, 1) := dk_42 (dk_at dksX11_tickGoes_3 19 rfl rfl)
theorem dX11_tickGoes_92 : decode cX11_tickGoes 92 = .ok (.getfield 111, 3) := dk_180 0 111 (dk_at dksX11_tickGoes_3 20 rfl rfl)
theorem dX11_tickGoes_95 : decode cX11_tickGoes 95 = .ok (.iconst 2, 1) := dk_5 (dk_at dksX11_tickGoes_3 23 rfl rfl)
theorem dX11_tickGoes_96 : decode cX11_tickGoes 96 = .ok (.iaload, 1) := dk_46 (dk_at dksX11_tickGoes_4 0 rfl rfl)
theorem dX11_tickGoes_97 : decode cX11_tickGoes 97 = .ok (.iconst 1, 1) := dk_4 (dk_at dksX11_tickGoes_4 1 rfl rfl)
theorem dX11_tickGoes_98 : decode cX11_tickGoes 98 = .ok (.invokevirtual 363, 3) := dk_182 1 107 (dk_at dksX11_tickGoes_4 2 rfl rfl)
theorem dX11_tickGoes_101 : decode cX11_tickGoes 101 = .ok (.iastore, 1) := dk_79 (dk_at dksX11_tickGoes_4 5 rfl rfl)
theorem dX11_tickGoes_102 : decode cX11_tickGoes 102 = .ok (.aload_n 0, 1) := dk_42 (dk_at dksX11_tickGoes_4 6 rfl rfl)
theorem dX11_tickGoes_103 : decode cX11_tickGoes 103 = .ok (.aload_n 0, 1) := dk_42 (dk_at dksX11_tickGoes_4 7 rfl rfl)
theorem dX11_tickGoes_104 : decode cX11_tickGoes 104 = .ok (.getfield 111, 3) := dk_180 0 111 (dk_at dksX11_tickGoes_4 8 rfl rfl)
theorem dX11_tickGoes_107 : decode cX11_tickGoes 107 = .ok (.iconst 2, 1) := dk_5 (dk_at dksX11_tickGoes_4 11 rfl rfl)
theorem dX11_tickGoes_108 : decode cX11_tickGoes 108 = .ok (.iaload, 1) := dk_46 (dk_at dksX11_tickGoes_4 12 rfl rfl)
theorem dX11_tickGoes_109 : decode cX11_tickGoes 109 = .ok (.invokevirtual 479, 3) := dk_182 1 223 (dk_at dksX11_tickGoes_4 13 rfl rfl)
theorem dX11_tickGoes_112 : decode cX11_tickGoes 112 = .ok (.aload_n 0, 1) := dk_42 (dk_at dksX11_tickGoes_4 16 rfl rfl)
theorem dX11_tickGoes_113 : decode cX11_tickGoes 113 = .ok (.getfield 111, 3) := dk_180 0 111 (dk_at dksX11_tickGoes_4 17 rfl rfl)
theorem dX11_tickGoes_116 : decode cX11_tickGoes 116 = .ok (.iconst 2, 1) := dk_5 (dk_at dksX11_tickGoes_4 20 rfl rfl)
theorem dX11_tickGoes_117 : decode cX11_tickGoes 117 = .ok (.dup2, 1) := dk_92 (dk_at dksX11_tickGoes_4 21 rfl rfl)
theorem dX11_tickGoes_118 : decode cX11_tickGoes 118 = .ok (.iaload, 1) := dk_46 (dk_at dksX11_tickGoes_4 22 rfl rfl)
theorem dX11_tickGoes_119 : decode cX11_tickGoes 119 = .ok (.iconst 1, 1) := dk_4 (dk_at dksX11_tickGoes_4 23 rfl rfl)
theorem dX11_tickGoes_120 : decode cX11_tickGoes 120 = .ok (.iadd, 1) := dk_96 (dk_at dksX11_tickGoes_5 0 rfl rfl)
theorem dX11_tickGoes_121 : decode cX11_tickGoes 121 = .ok (.iastore, 1) := dk_79 (dk_at dksX11_tickGoes_5 1 rfl rfl)
theorem dX11_tickGoes_122 : decode cX11_tickGoes 122 = .ok (.aload_n 0, 1) := dk_42 (dk_at dksX11_tickGoes_5 2 rfl rfl)
theorem dX11_tickGoes_123 : decode cX11_tickGoes 123 = .ok (.dup, 1) := dk_89 (dk_at dksX11_tickGoes_5 3 rfl rfl)
theorem dX11_tickGoes_124 : decode cX11_tickGoes 124 = .ok (.getfield 482, 3) := dk_180 1 226 (dk_at dksX11_tickGoes_5 4 rfl rfl)
theorem dX11_tickGoes_127 : decode cX11_tickGoes 127 = .ok (.aload_n 0, 1) := dk_42 (dk_at dksX11_tickGoes_5 7 rfl rfl)
theorem dX11_tickGoes_128 : decode cX11_tickGoes 128 = .ok (.getfield 473, 3) := dk_180 1 217 (dk_at dksX11_tickGoes_5 8 rfl rfl)
theorem dX11_tickGoes_131 : decode cX11_tickGoes 131 = .ok (.iadd, 1) := dk_96 (dk_at dksX11_tickGoes_5 11 rfl rfl)
theorem dX11_tickGoes_132 : decode cX11_tickGoes 132 = .ok (.putfield 482, 3) := dk_181 1 226 (dk_at dksX11_tickGoes_5 12 rfl rfl)
theorem dX11_tickGoes_135 : decode cX11_tickGoes 135 = .ok (.goto (-87), 3) := dk_167 255 169 (dk_at dksX11_tickGoes_5 15 rfl rfl)
theorem dX11_tickGoes_138 : decode cX11_tickGoes 138 = .ok (.aload_n 0, 1) := dk_42 (dk_at dksX11_tickGoes_5 18 rfl rfl)
theorem dX11_tickGoes_139 : decode cX11_tickGoes 139 = .ok (.getfield 111, 3) := dk_180 0 111 (dk_at dksX11_tickGoes_5 19 rfl rfl)
theorem dX11_tickGoes_142 : decode cX11_tickGoes 142 = .ok (.iconst 4, 1) := dk_7 (dk_at dksX11_tickGoes_5 22 rfl rfl)
theorem dX11_tickGoes_143 : decode cX11_tickGoes 143 = .ok (.iaload, 1) := dk_46 (dk_at dksX11_tickGoes_5 23 rfl rfl)
theorem dX11_tickGoes_144 : decode cX11_tickGoes 144 = .ok (.ifCond .ne 7, 3) := dk_154 0 7 (dk_at dksX11_tickGoes_6 0 rfl rfl)
theorem dX11_tickGoes_147 : decode cX11_tickGoes 147 = .ok (.aload_n 0, 1) := dk_42 (dk_at dksX11_tickGoes_6 3 rfl rfl)
theorem dX11_tickGoes_148 : decode cX11_tickGoes 148 = .ok (.invokevirtual 485, 3) := dk_182 1 229 (dk_at dksX11_tickGoes_6 4 rfl rfl)
theorem dX11_tickGoes_151 : decode cX11_tickGoes 151 = .ok (.aload_n 0, 1) := dk_42 (dk_at dksX11_tickGoes_6 7 rfl rfl)
theorem dX11_tickGoes_152 : decode cX11_tickGoes 152 = .ok (.getfield 111, 3) := dk_180 0 111 (dk_at dksX11_tickGoes_6 8 rfl rfl)
theorem dX11_tickGoes_155 : decode cX11_tickGoes 155 = .ok (.iconst 0, 1) := dk_3 (dk_at dksX11_tickGoes_6 11 rfl rfl)
theorem dX11_tickGoes_156 : decode cX11_tickGoes 156 = .ok (.dup2, 1) := dk_92 (dk_at dksX11_tickGoes_6 12 rfl rfl)
theorem dX11_tickGoes_157 : decode cX11_tickGoes 157 = .ok (.iaload, 1) := dk_46 (dk_at dksX11_tickGoes_6 13 rfl rfl)
theorem dX11_tickGoes_158 : decode cX11_tickGoes 158 = .ok (.iconst 1, 1) := dk_4 (dk_at dksX11_tickGoes_6 14 rfl rfl)
theorem dX11_tickGoes_159 : decode cX11_tickGoes 159 = .ok (.iadd, 1) := dk_96 (dk_at dksX11_tickGoes_6 15 rfl rfl)
theorem dX11_tickGoes_160 : decode cX11_tickGoes 160 = .ok (.iastore, 1) := dk_79 (dk_at dksX11_tickGoes_6 16 rfl rfl)
theorem dX11_tickGoes_161 : decode cX11_tickGoes 161 = .ok (.return_, 1) := dk_177 (dk_at dksX11_tickGoes_6 17 rfl rfl)
abbrev cX11_arrives : ByteArray := prog_26_method_55_code
def yX11_arrives : MethodName := ⟨RX11, "arrives", "(I)V"⟩
def dkwX11_arrives_2 : List UInt8 := [180, 0, 111, 6, 3, 79, 177]
abbrev dktX11_arrives_2 : List UInt8 := dkwX11_arrives_2 ++ []
def dkwX11_arrives_1 : List UInt8 := [17, 6, 196, 28, 96, 46, 182, 1, 137, 132, 2, 1, 167, 255, 224, 42, 180, 0, 111, 7, 3, 79, 42]
abbrev dktX11_arrives_1 : List UInt8 := dkwX11_arrives_1 ++ dktX11_arrives_2
def dkwX11_arrives_0 : List UInt8 := [3, 61, 28, 27, 162, 0, 33, 42, 42, 180, 0, 111, 17, 4, 196, 28, 96, 46, 42, 180, 0, 111]
abbrev dktX11_arrives_0 : List UInt8 := dkwX11_arrives_0 ++ dktX11_arrives_1
theorem dksX11_arrives_0 : cX11_arrives.data.toList.drop 0 = dktX11_arrives_0 := by decide +kernel
theorem dksX11_arrives_1 : cX11_arrives.data.toList.drop 22 = dktX11_arrives_1 := dk_seg dksX11_arrives_0 22 rfl rfl
theorem dksX11_arrives_2 : cX11_arrives.data.toList.drop 45 = dktX11_arrives_2 := dk_seg dksX11_arrives_1 23 rfl rfl
theorem dX11_arrives_0 : decode cX11_arrives 0 = .ok (.iconst 0, 1) := dk_3 (dk_at dksX11_arrives_0 0 rfl rfl)
theorem dX11_arrives_1 : decode cX11_arrives 1 = .ok (.istore_n 2, 1) := dk_61 (dk_at dksX11_arrives_0 1 rfl rfl)
theorem dX11_arrives_2 : decode cX11_arrives 2 = .ok (.iload_n 2, 1) := dk_28 (dk_at dksX11_arrives_0 2 rfl rfl)
theorem dX11_arrives_3 : decode cX11_arrives 3 = .ok (.iload_n 1, 1) := dk_27 (dk_at dksX11_arrives_0 3 rfl rfl)
theorem dX11_arrives_4 : decode cX11_arrives 4 = .ok (.if_icmp .ge 33, 3) := dk_162 0 33 (dk_at dksX11_arrives_0 4 rfl rfl)
theorem dX11_arrives_7 : decode cX11_arrives 7 = .ok (.aload_n 0, 1) := dk_42 (dk_at dksX11_arrives_0 7 rfl rfl)
theorem dX11_arrives_8 : decode cX11_arrives 8 = .ok (.aload_n 0, 1) := dk_42 (dk_at dksX11_arrives_0 8 rfl rfl)
theorem dX11_arrives_9 : decode cX11_arrives 9 = .ok (.getfield 111, 3) := dk_180 0 111 (dk_at dksX11_arrives_0 9 rfl rfl)
theorem dX11_arrives_12 : decode cX11_arrives 12 = .ok (.sipush 1220, 3) := dk_17 4 196 (dk_at dksX11_arrives_0 12 rfl rfl)
theorem dX11_arrives_15 : decode cX11_arrives 15 = .ok (.iload_n 2, 1) := dk_28 (dk_at dksX11_arrives_0 15 rfl rfl)
theorem dX11_arrives_16 : decode cX11_arrives 16 = .ok (.iadd, 1) := dk_96 (dk_at dksX11_arrives_0 16 rfl rfl)
theorem dX11_arrives_17 : decode cX11_arrives 17 = .ok (.iaload, 1) := dk_46 (dk_at dksX11_arrives_0 17 rfl rfl)
theorem dX11_arrives_18 : decode cX11_arrives 18 = .ok (.aload_n 0, 1) := dk_42 (dk_at dksX11_arrives_0 18 rfl rfl)
theorem dX11_arrives_19 : decode cX11_arrives 19 = .ok (.getfield 111, 3) := dk_180 0 111 (dk_at dksX11_arrives_0 19 rfl rfl)
theorem dX11_arrives_22 : decode cX11_arrives 22 = .ok (.sipush 1732, 3) := dk_17 6 196 (dk_at dksX11_arrives_1 0 rfl rfl)
theorem dX11_arrives_25 : decode cX11_arrives 25 = .ok (.iload_n 2, 1) := dk_28 (dk_at dksX11_arrives_1 3 rfl rfl)
theorem dX11_arrives_26 : decode cX11_arrives 26 = .ok (.iadd, 1) := dk_96 (dk_at dksX11_arrives_1 4 rfl rfl)
theorem dX11_arrives_27 : decode cX11_arrives 27 = .ok (.iaload, 1) := dk_46 (dk_at dksX11_arrives_1 5 rfl rfl)
theorem dX11_arrives_28 : decode cX11_arrives 28 = .ok (.invokevirtual 393, 3) := dk_182 1 137 (dk_at dksX11_arrives_1 6 rfl rfl)
theorem dX11_arrives_31 : decode cX11_arrives 31 = .ok (.iinc 2 1, 3) := dk_132 2 1 (dk_at dksX11_arrives_1 9 rfl rfl)
theorem dX11_arrives_34 : decode cX11_arrives 34 = .ok (.goto (-32), 3) := dk_167 255 224 (dk_at dksX11_arrives_1 12 rfl rfl)
theorem dX11_arrives_37 : decode cX11_arrives 37 = .ok (.aload_n 0, 1) := dk_42 (dk_at dksX11_arrives_1 15 rfl rfl)
theorem dX11_arrives_38 : decode cX11_arrives 38 = .ok (.getfield 111, 3) := dk_180 0 111 (dk_at dksX11_arrives_1 16 rfl rfl)
theorem dX11_arrives_41 : decode cX11_arrives 41 = .ok (.iconst 4, 1) := dk_7 (dk_at dksX11_arrives_1 19 rfl rfl)
theorem dX11_arrives_42 : decode cX11_arrives 42 = .ok (.iconst 0, 1) := dk_3 (dk_at dksX11_arrives_1 20 rfl rfl)
theorem dX11_arrives_43 : decode cX11_arrives 43 = .ok (.iastore, 1) := dk_79 (dk_at dksX11_arrives_1 21 rfl rfl)
theorem dX11_arrives_44 : decode cX11_arrives 44 = .ok (.aload_n 0, 1) := dk_42 (dk_at dksX11_arrives_1 22 rfl rfl)
theorem dX11_arrives_45 : decode cX11_arrives 45 = .ok (.getfield 111, 3) := dk_180 0 111 (dk_at dksX11_arrives_2 0 rfl rfl)
theorem dX11_arrives_48 : decode cX11_arrives 48 = .ok (.iconst 3, 1) := dk_6 (dk_at dksX11_arrives_2 3 rfl rfl)
theorem dX11_arrives_49 : decode cX11_arrives 49 = .ok (.iconst 0, 1) := dk_3 (dk_at dksX11_arrives_2 4 rfl rfl)
theorem dX11_arrives_50 : decode cX11_arrives 50 = .ok (.iastore, 1) := dk_79 (dk_at dksX11_arrives_2 5 rfl rfl)
theorem dX11_arrives_51 : decode cX11_arrives 51 = .ok (.return_, 1) := dk_177 (dk_at dksX11_arrives_2 6 rfl rfl)
abbrev cX11_releases : ByteArray := prog_26_method_54_code
def yX11_releases : MethodName := ⟨RX11, "releases", "(I)V"⟩
def dkwX11_releases_4 : List UInt8 := [16, 12, 28, 79, 177]
abbrev dktX11_releases_4 : List UInt8 := dkwX11_releases_4 ++ []
def dkwX11_releases_3 : List UInt8 := [180, 0, 111, 17, 0, 176, 28, 96, 21, 5, 79, 132, 2, 1, 132, 4, 1, 167, 255, 182, 42, 180, 0, 111]
abbrev dktX11_releases_3 : List UInt8 := dkwX11_releases_3 ++ dktX11_releases_4
def dkwX11_releases_2 : List UInt8 := [42, 180, 0, 111, 17, 0, 184, 21, 5, 96, 2, 79, 42, 21, 5, 27, 182, 1, 214, 167, 0, 18, 42]
abbrev dktX11_releases_2 : List UInt8 := dkwX11_releases_2 ++ dktX11_releases_3
def dkwX11_releases_1 : List UInt8 := [17, 0, 176, 21, 4, 96, 46, 54, 5, 42, 180, 0, 111, 17, 0, 184, 21, 5, 96, 46, 27, 160, 0, 25]
abbrev dktX11_releases_1 : List UInt8 := dkwX11_releases_1 ++ dktX11_releases_2
def dkwX11_releases_0 : List UInt8 := [3, 61, 42, 180, 0, 111, 16, 12, 46, 62, 3, 54, 4, 21, 4, 29, 162, 0, 74, 42, 180, 0, 111]
abbrev dktX11_releases_0 : List UInt8 := dkwX11_releases_0 ++ dktX11_releases_1
theorem dksX11_releases_0 : cX11_releases.data.toList.drop 0 = dktX11_releases_0 := by decide +kernel
theorem dksX11_releases_1 : cX11_releases.data.toList.drop 23 = dktX11_releases_1 := dk_seg dksX11_releases_0 23 rfl rfl
theorem dksX11_releases_2 : cX11_releases.data.toList.drop 47 = dktX11_releases_2 := dk_seg dksX11_releases_1 24 rfl rfl
theorem dksX11_releases_3 : cX11_releases.data.toList.drop 70 = dktX11_releases_3 := dk_seg dksX11_releases_2 23 rfl rfl
theorem dksX11_releases_4 : cX11_releases.data.toList.drop 94 = dktX11_releases_4 := dk_seg dksX11_releases_3 24 rfl rfl
theorem dX11_releases_0 : decode cX11_releases 0 = .ok (.iconst 0, 1) := dk_3 (dk_at dksX11_releases_0 0 rfl rfl)
theorem dX11_releases_1 : decode cX11_releases 1 = .ok (.istore_n 2, 1) := dk_61 (dk_at dksX11_releases_0 1 rfl rfl)
theorem dX11_releases_2 : decode cX11_releases 2 = .ok (.aload_n 0, 1) := dk_42 (dk_at dksX11_releases_0 2 rfl rfl)
theorem dX11_releases_3 : decode cX11_releases 3 = .ok (.getfield 111, 3) := dk_180 0 111 (dk_at dksX11_releases_0 3 rfl rfl)
theorem dX11_releases_6 : decode cX11_releases 6 = .ok (.bipush 12, 2) := dk_16 12 (dk_at dksX11_releases_0 6 rfl rfl)
theorem dX11_releases_8 : decode cX11_releases 8 = .ok (.iaload, 1) := dk_46 (dk_at dksX11_releases_0 8 rfl rfl)
theorem dX11_releases_9 : decode cX11_releases 9 = .ok (.istore_n 3, 1) := dk_62 (dk_at dksX11_releases_0 9 rfl rfl)
theorem dX11_releases_10 : decode cX11_releases 10 = .ok (.iconst 0, 1) := dk_3 (dk_at dksX11_releases_0 10 rfl rfl)
theorem dX11_releases_11 : decode cX11_releases 11 = .ok (.istore 4, 2) := dk_54 4 (dk_at dksX11_releases_0 11 rfl rfl)
theorem dX11_releases_13 : decode cX11_releases 13 = .ok (.iload 4, 2) := dk_21 4 (dk_at dksX11_releases_0 13 rfl rfl)
theorem dX11_releases_15 : decode cX11_releases 15 = .ok (.iload_n 3, 1) := dk_29 (dk_at dksX11_releases_0 15 rfl rfl)
theorem dX11_releases_16 : decode cX11_releases 16 = .ok (.if_icmp .ge 74, 3) := dk_162 0 74 (dk_at dksX11_releases_0 16 rfl rfl)
theorem dX11_releases_19 : decode cX11_releases 19 = .ok (.aload_n 0, 1) := dk_42 (dk_at dksX11_releases_0 19 rfl rfl)
theorem dX11_releases_20 : decode cX11_releases 20 = .ok (.getfield 111, 3) := dk_180 0 111 (dk_at dksX11_releases_0 20 rfl rfl)
theorem dX11_releases_23 : decode cX11_releases 23 = .ok (.sipush 176, 3) := dk_17 0 176 (dk_at dksX11_releases_1 0 rfl rfl)
theorem dX11_releases_26 : decode cX11_releases 26 = .ok (.iload 4, 2) := dk_21 4 (dk_at dksX11_releases_1 3 rfl rfl)
theorem dX11_releases_28 : decode cX11_releases 28 = .ok (.iadd, 1) := dk_96 (dk_at dksX11_releases_1 5 rfl rfl)
theorem dX11_releases_29 : decode cX11_releases 29 = .ok (.iaload, 1) := dk_46 (dk_at dksX11_releases_1 6 rfl rfl)
theorem dX11_releases_30 : decode cX11_releases 30 = .ok (.istore 5, 2) := dk_54 5 (dk_at dksX11_releases_1 7 rfl rfl)
theorem dX11_releases_32 : decode cX11_releases 32 = .ok (.aload_n 0, 1) := dk_42 (dk_at dksX11_releases_1 9 rfl rfl)
theorem dX11_releases_33 : decode cX11_releases 33 = .ok (.getfield 111, 3) := dk_180 0 111 (dk_at dksX11_releases_1 10 rfl rfl)
theorem dX11_releases_36 : decode cX11_releases 36 = .ok (.sipush 184, 3) := dk_17 0 184 (dk_at dksX11_releases_1 13 rfl rfl)
theorem dX11_releases_39 : decode cX11_releases 39 = .ok (.iload 5, 2) := dk_21 5 (dk_at dksX11_releases_1 16 rfl rfl)
theorem dX11_releases_41 : decode cX11_releases 41 = .ok (.iadd, 1) := dk_96 (dk_at dksX11_releases_1 18 rfl rfl)
theorem dX11_releases_42 : decode cX11_releases 42 = .ok (.iaload, 1) := dk_46 (dk_at dksX11_releases_1 19 rfl rfl)
theorem dX11_releases_43 : decode cX11_releases 43 = .ok (.iload_n 1, 1) := dk_27 (dk_at dksX11_releases_1 20 rfl rfl)
theorem dX11_releases_44 : decode cX11_releases 44 = .ok (.if_icmp .ne 25, 3) := dk_160 0 25 (dk_at dksX11_releases_1 21 rfl rfl)
theorem dX11_releases_47 : decode cX11_releases 47 = .ok (.aload_n 0, 1) := dk_42 (dk_at dksX11_releases_2 0 rfl rfl)
theorem dX11_releases_48 : decode cX11_releases 48 = .ok (.getfield 111, 3) := dk_180 0 111 (dk_at dksX11_releases_2 1 rfl rfl)
theorem dX11_releases_51 : decode cX11_releases 51 = .ok (.sipush 184, 3) := dk_17 0 184 (dk_at dksX11_releases_2 4 rfl rfl)
theorem dX11_releases_54 : decode cX11_releases 54 = .ok (.iload 5, 2) := dk_21 5 (dk_at dksX11_releases_2 7 rfl rfl)
theorem dX11_releases_56 : decode cX11_releases 56 = .ok (.iadd, 1) := dk_96 (dk_at dksX11_releases_2 9 rfl rfl)
theorem dX11_releases_57 : decode cX11_releases 57 = .ok (.iconst (-1), 1) := dk_2 (dk_at dksX11_releases_2 10 rfl rfl)
theorem dX11_releases_58 : decode cX11_releases 58 = .ok (.iastore, 1) := dk_79 (dk_at dksX11_releases_2 11 rfl rfl)
theorem dX11_releases_59 : decode cX11_releases 59 = .ok (.aload_n 0, 1) := dk_42 (dk_at dksX11_releases_2 12 rfl rfl)
theorem dX11_releases_60 : decode cX11_releases 60 = .ok (.iload 5, 2) := dk_21 5 (dk_at dksX11_releases_2 13 rfl rfl)
theorem dX11_releases_62 : decode cX11_releases 62 = .ok (.iload_n 1, 1) := dk_27 (dk_at dksX11_releases_2 15 rfl rfl)
theorem dX11_releases_63 : decode cX11_releases 63 = .ok (.invokevirtual 470, 3) := dk_182 1 214 (dk_at dksX11_releases_2 16 rfl rfl)
theorem dX11_releases_66 : decode cX11_releases 66 = .ok (.goto 18, 3) := dk_167 0 18 (dk_at dksX11_releases_2 19 rfl rfl)
theorem dX11_releases_69 : decode cX11_releases 69 = .ok (.aload_n 0, 1) := dk_42 (dk_at dksX11_releases_2 22 rfl rfl)
theorem dX11_releases_70 : decode cX11_releases 70 = .ok (.getfield 111, 3) := dk_180 0 111 (dk_at dksX11_releases_3 0 rfl rfl)
theorem dX11_releases_73 : decode cX11_releases 73 = .ok (.sipush 176, 3) := dk_17 0 176 (dk_at dksX11_releases_3 3 rfl rfl)
theorem dX11_releases_76 : decode cX11_releases 76 = .ok (.iload_n 2, 1) := dk_28 (dk_at dksX11_releases_3 6 rfl rfl)
theorem dX11_releases_77 : decode cX11_releases 77 = .ok (.iadd, 1) := dk_96 (dk_at dksX11_releases_3 7 rfl rfl)
theorem dX11_releases_78 : decode cX11_releases 78 = .ok (.iload 5, 2) := dk_21 5 (dk_at dksX11_releases_3 8 rfl rfl)
theorem dX11_releases_80 : decode cX11_releases 80 = .ok (.iastore, 1) := dk_79 (dk_at dksX11_releases_3 10 rfl rfl)
theorem dX11_releases_81 : decode cX11_releases 81 = .ok (.iinc 2 1, 3) := dk_132 2 1 (dk_at dksX11_releases_3 11 rfl rfl)
theorem dX11_releases_84 : decode cX11_releases 84 = .ok (.iinc 4 1, 3) := dk_132 4 1 (dk_at dksX11_releases_3 14 rfl rfl)
theorem dX11_releases_87 : decode cX11_releases 87 = .ok (.goto (-74), 3) := dk_167 255 182 (dk_at dksX11_releases_3 17 rfl rfl)
theorem dX11_releases_90 : decode cX11_releases 90 = .ok (.aload_n 0, 1) := dk_42 (dk_at dksX11_releases_3 20 rfl rfl)
theorem dX11_releases_91 : decode cX11_releases 91 = .ok (.getfield 111, 3) := dk_180 0 111 (dk_at dksX11_releases_3 21 rfl rfl)
theorem dX11_releases_94 : decode cX11_releases 94 = .ok (.bipush 12, 2) := dk_16 12 (dk_at dksX11_releases_4 0 rfl rfl)
theorem dX11_releases_96 : decode cX11_releases 96 = .ok (.iload_n 2, 1) := dk_28 (dk_at dksX11_releases_4 2 rfl rfl)
theorem dX11_releases_97 : decode cX11_releases 97 = .ok (.iastore, 1) := dk_79 (dk_at dksX11_releases_4 3 rfl rfl)
theorem dX11_releases_98 : decode cX11_releases 98 = .ok (.return_, 1) := dk_177 (dk_at dksX11_releases_4 4 rfl rfl)
abbrev cX11_isKept : ByteArray := prog_26_method_53_code
def yX11_isKept : MethodName := ⟨RX11, "isKept", "(II)V"⟩
def dkwX11_isKept_5 : List UInt8 := [180, 0, 111, 29, 5, 96, 28, 79, 177]
abbrev dktX11_isKept_5 : List UInt8 := dkwX11_isKept_5 ++ []
def dkwX11_isKept_4 : List UInt8 := [62, 42, 180, 0, 111, 29, 42, 180, 0, 111, 3, 46, 79, 42, 180, 0, 111, 29, 4, 96, 27, 79, 42]
abbrev dktX11_isKept_4 : List UInt8 := dkwX11_isKept_4 ++ dktX11_isKept_5
def dkwX11_isKept_3 : List UInt8 := [17, 8, 196, 92, 46, 4, 96, 79, 17, 8, 197, 6, 42, 180, 0, 111, 17, 8, 196, 46, 104, 96, 6, 100]
abbrev dktX11_isKept_3 : List UInt8 := dkwX11_isKept_3 ++ dktX11_isKept_4
def dkwX11_isKept_2 : List UInt8 := [29, 42, 180, 0, 111, 29, 6, 96, 46, 79, 132, 3, 1, 167, 255, 232, 167, 0, 15, 42, 180, 0, 111]
abbrev dktX11_isKept_2 : List UInt8 := dkwX11_isKept_2 ++ dktX11_isKept_3
def dkwX11_isKept_1 : List UInt8 := [17, 8, 196, 46, 16, 40, 160, 0, 37, 17, 8, 197, 62, 29, 17, 9, 58, 162, 0, 23, 42, 180, 0, 111]
abbrev dktX11_isKept_1 : List UInt8 := dkwX11_isKept_1 ++ dktX11_isKept_2
def dkwX11_isKept_0 : List UInt8 := [42, 89, 180, 1, 208, 4, 96, 181, 1, 208, 42, 180, 1, 211, 153, 0, 4, 177, 42, 180, 0, 111]
abbrev dktX11_isKept_0 : List UInt8 := dkwX11_isKept_0 ++ dktX11_isKept_1
theorem dksX11_isKept_0 : cX11_isKept.data.toList.drop 0 = dktX11_isKept_0 := by decide +kernel
theorem dksX11_isKept_1 : cX11_isKept.data.toList.drop 22 = dktX11_isKept_1 := dk_seg dksX11_isKept_0 22 rfl rfl
theorem dksX11_isKept_2 : cX11_isKept.data.toList.drop 46 = dktX11_isKept_2 := dk_seg dksX11_isKept_1 24 rfl rfl
theorem dksX11_isKept_3 : cX11_isKept.data.toList.drop 69 = dktX11_isKept_3 := dk_seg dksX11_isKept_2 23 rfl rfl
theorem dksX11_isKept_4 : cX11_isKept.data.toList.drop 93 = dktX11_isKept_4 := dk_seg dksX11_isKept_3 24 rfl rfl
theorem dksX11_isKept_5 : cX11_isKept.data.toList.drop 116 = dktX11_isKept_5 := dk_seg dksX11_isKept_4 23 rfl rfl
theorem dX11_isKept_0 : decode cX11_isKept 0 = .ok (.aload_n 0, 1) := dk_42 (dk_at dksX11_isKept_0 0 rfl rfl)
theorem dX11_isKept_1 : decode cX11_isKept 1 = .ok (.dup, 1) := dk_89 (dk_at dksX11_isKept_0 1 rfl rfl)
theorem dX11_isKept_2 : decode cX11_isKept 2 = .ok (.getfield 464, 3) := dk_180 1 208 (dk_at dksX11_isKept_0 2 rfl rfl)
theorem dX11_isKept_5 : decode cX11_isKept 5 = .ok (.iconst 1, 1) := dk_4 (dk_at dksX11_isKept_0 5 rfl rfl)
theorem dX11_isKept_6 : decode cX11_isKept 6 = .ok (.iadd, 1) := dk_96 (dk_at dksX11_isKept_0 6 rfl rfl)
theorem dX11_isKept_7 : decode cX11_isKept 7 = .ok (.putfield 464, 3) := dk_181 1 208 (dk_at dksX11_isKept_0 7 rfl rfl)
theorem dX11_isKept_10 : decode cX11_isKept 10 = .ok (.aload_n 0, 1) := dk_42 (dk_at dksX11_isKept_0 10 rfl rfl)
theorem dX11_isKept_11 : decode cX11_isKept 11 = .ok (.getfield 467, 3) := dk_180 1 211 (dk_at dksX11_isKept_0 11 rfl rfl)
theorem dX11_isKept_14 : decode cX11_isKept 14 = .ok (.ifCond .eq 4, 3) := dk_153 0 4 (dk_at dksX11_isKept_0 14 rfl rfl)
theorem dX11_isKept_17 : decode cX11_isKept 17 = .ok (.return_, 1) := dk_177 (dk_at dksX11_isKept_0 17 rfl rfl)
theorem dX11_isKept_18 : decode cX11_isKept 18 = .ok (.aload_n 0, 1) := dk_42 (dk_at dksX11_isKept_0 18 rfl rfl)
theorem dX11_isKept_19 : decode cX11_isKept 19 = .ok (.getfield 111, 3) := dk_180 0 111 (dk_at dksX11_isKept_0 19 rfl rfl)
theorem dX11_isKept_22 : decode cX11_isKept 22 = .ok (.sipush 2244, 3) := dk_17 8 196 (dk_at dksX11_isKept_1 0 rfl rfl)
theorem dX11_isKept_25 : decode cX11_isKept 25 = .ok (.iaload, 1) := dk_46 (dk_at dksX11_isKept_1 3 rfl rfl)
theorem dX11_isKept_26 : decode cX11_isKept 26 = .ok (.bipush 40, 2) := dk_16 40 (dk_at dksX11_isKept_1 4 rfl rfl)
theorem dX11_isKept_28 : decode cX11_isKept 28 = .ok (.if_icmp .ne 37, 3) := dk_160 0 37 (dk_at dksX11_isKept_1 6 rfl rfl)
theorem dX11_isKept_31 : decode cX11_isKept 31 = .ok (.sipush 2245, 3) := dk_17 8 197 (dk_at dksX11_isKept_1 9 rfl rfl)
theorem dX11_isKept_34 : decode cX11_isKept 34 = .ok (.istore_n 3, 1) := dk_62 (dk_at dksX11_isKept_1 12 rfl rfl)
theorem dX11_isKept_35 : decode cX11_isKept 35 = .ok (.iload_n 3, 1) := dk_29 (dk_at dksX11_isKept_1 13 rfl rfl)
theorem dX11_isKept_36 : decode cX11_isKept 36 = .ok (.sipush 2362, 3) := dk_17 9 58 (dk_at dksX11_isKept_1 14 rfl rfl)
theorem dX11_isKept_39 : decode cX11_isKept 39 = .ok (.if_icmp .ge 23, 3) := dk_162 0 23 (dk_at dksX11_isKept_1 17 rfl rfl)
theorem dX11_isKept_42 : decode cX11_isKept 42 = .ok (.aload_n 0, 1) := dk_42 (dk_at dksX11_isKept_1 20 rfl rfl)
theorem dX11_isKept_43 : decode cX11_isKept 43 = .ok (.getfield 111, 3) := dk_180 0 111 (dk_at dksX11_isKept_1 21 rfl rfl)
theorem dX11_isKept_46 : decode cX11_isKept 46 = .ok (.iload_n 3, 1) := dk_29 (dk_at dksX11_isKept_2 0 rfl rfl)
theorem dX11_isKept_47 : decode cX11_isKept 47 = .ok (.aload_n 0, 1) := dk_42 (dk_at dksX11_isKept_2 1 rfl rfl)
theorem dX11_isKept_48 : decode cX11_isKept 48 = .ok (.getfield 111, 3) := dk_180 0 111 (dk_at dksX11_isKept_2 2 rfl rfl)
theorem dX11_isKept_51 : decode cX11_isKept 51 = .ok (.iload_n 3, 1) := dk_29 (dk_at dksX11_isKept_2 5 rfl rfl)
theorem dX11_isKept_52 : decode cX11_isKept 52 = .ok (.iconst 3, 1) := dk_6 (dk_at dksX11_isKept_2 6 rfl rfl)
theorem dX11_isKept_53 : decode cX11_isKept 53 = .ok (.iadd, 1) := dk_96 (dk_at dksX11_isKept_2 7 rfl rfl)
theorem dX11_isKept_54 : decode cX11_isKept 54 = .ok (.iaload, 1) := dk_46 (dk_at dksX11_isKept_2 8 rfl rfl)
theorem dX11_isKept_55 : decode cX11_isKept 55 = .ok (.iastore, 1) := dk_79 (dk_at dksX11_isKept_2 9 rfl rfl)
theorem dX11_isKept_56 : decode cX11_isKept 56 = .ok (.iinc 3 1, 3) := dk_132 3 1 (dk_at dksX11_isKept_2 10 rfl rfl)
theorem dX11_isKept_59 : decode cX11_isKept 59 = .ok (.goto (-24), 3) := dk_167 255 232 (dk_at dksX11_isKept_2 13 rfl rfl)
theorem dX11_isKept_62 : decode cX11_isKept 62 = .ok (.goto 15, 3) := dk_167 0 15 (dk_at dksX11_isKept_2 16 rfl rfl)
theorem dX11_isKept_65 : decode cX11_isKept 65 = .ok (.aload_n 0, 1) := dk_42 (dk_at dksX11_isKept_2 19 rfl rfl)
theorem dX11_isKept_66 : decode cX11_isKept 66 = .ok (.getfield 111, 3) := dk_180 0 111 (dk_at dksX11_isKept_2 20 rfl rfl)
theorem dX11_isKept_69 : decode cX11_isKept 69 = .ok (.sipush 2244, 3) := dk_17 8 196 (dk_at dksX11_isKept_3 0 rfl rfl)
theorem dX11_isKept_72 : decode cX11_isKept 72 = .ok (.dup2, 1) := dk_92 (dk_at dksX11_isKept_3 3 rfl rfl)
theorem dX11_isKept_73 : decode cX11_isKept 73 = .ok (.iaload, 1) := dk_46 (dk_at dksX11_isKept_3 4 rfl rfl)
theorem dX11_isKept_74 : decode cX11_isKept 74 = .ok (.iconst 1, 1) := dk_4 (dk_at dksX11_isKept_3 5 rfl rfl)
theorem dX11_isKept_75 : decode cX11_isKept 75 = .ok (.iadd, 1) := dk_96 (dk_at dksX11_isKept_3 6 rfl rfl)
theorem dX11_isKept_76 : decode cX11_isKept 76 = .ok (.iastore, 1) := dk_79 (dk_at dksX11_isKept_3 7 rfl rfl)
theorem dX11_isKept_77 : decode cX11_isKept 77 = .ok (.sipush 2245, 3) := dk_17 8 197 (dk_at dksX11_isKept_3 8 rfl rfl)
theorem dX11_isKept_80 : decode cX11_isKept 80 = .ok (.iconst 3, 1) := dk_6 (dk_at dksX11_isKept_3 11 rfl rfl)
theorem dX11_isKept_81 : decode cX11_isKept 81 = .ok (.aload_n 0, 1) := dk_42 (dk_at dksX11_isKept_3 12 rfl rfl)
theorem dX11_isKept_82 : decode cX11_isKept 82 = .ok (.getfield 111, 3) := dk_180 0 111 (dk_at dksX11_isKept_3 13 rfl rfl)
theorem dX11_isKept_85 : decode cX11_isKept 85 = .ok (.sipush 2244, 3) := dk_17 8 196 (dk_at dksX11_isKept_3 16 rfl rfl)
theorem dX11_isKept_88 : decode cX11_isKept 88 = .ok (.iaload, 1) := dk_46 (dk_at dksX11_isKept_3 19 rfl rfl)
theorem dX11_isKept_89 : decode cX11_isKept 89 = .ok (.imul, 1) := dk_104 (dk_at dksX11_isKept_3 20 rfl rfl)
theorem dX11_isKept_90 : decode cX11_isKept 90 = .ok (.iadd, 1) := dk_96 (dk_at dksX11_isKept_3 21 rfl rfl)
theorem dX11_isKept_91 : decode cX11_isKept 91 = .ok (.iconst 3, 1) := dk_6 (dk_at dksX11_isKept_3 22 rfl rfl)
theorem dX11_isKept_92 : decode cX11_isKept 92 = .ok (.isub, 1) := dk_100 (dk_at dksX11_isKept_3 23 rfl rfl)
theorem dX11_isKept_93 : decode cX11_isKept 93 = .ok (.istore_n 3, 1) := dk_62 (dk_at dksX11_isKept_4 0 rfl rfl)
theorem dX11_isKept_94 : decode cX11_isKept 94 = .ok (.aload_n 0, 1) := dk_42 (dk_at dksX11_isKept_4 1 rfl rfl)
theorem dX11_isKept_95 : decode cX11_isKept 95 = .ok (.getfield 111, 3) := dk_180 0 111 (dk_at dksX11_isKept_4 2 rfl rfl)
theorem dX11_isKept_98 : decode cX11_isKept 98 = .ok (.iload_n 3, 1) := dk_29 (dk_at dksX11_isKept_4 5 rfl rfl)
theorem dX11_isKept_99 : decode cX11_isKept 99 = .ok (.aload_n 0, 1) := dk_42 (dk_at dksX11_isKept_4 6 rfl rfl)
theorem dX11_isKept_100 : decode cX11_isKept 100 = .ok (.getfield 111, 3) := dk_180 0 111 (dk_at dksX11_isKept_4 7 rfl rfl)
theorem dX11_isKept_103 : decode cX11_isKept 103 = .ok (.iconst 0, 1) := dk_3 (dk_at dksX11_isKept_4 10 rfl rfl)
theorem dX11_isKept_104 : decode cX11_isKept 104 = .ok (.iaload, 1) := dk_46 (dk_at dksX11_isKept_4 11 rfl rfl)
theorem dX11_isKept_105 : decode cX11_isKept 105 = .ok (.iastore, 1) := dk_79 (dk_at dksX11_isKept_4 12 rfl rfl)
theorem dX11_isKept_106 : decode cX11_isKept 106 = .ok (.aload_n 0, 1) := dk_42 (dk_at dksX11_isKept_4 13 rfl rfl)
theorem dX11_isKept_107 : decode cX11_isKept 107 = .ok (.getfield 111, 3) := dk_180 0 111 (dk_at dksX11_isKept_4 14 rfl rfl)
theorem dX11_isKept_110 : decode cX11_isKept 110 = .ok (.iload_n 3, 1) := dk_29 (dk_at dksX11_isKept_4 17 rfl rfl)
theorem dX11_isKept_111 : decode cX11_isKept 111 = .ok (.iconst 1, 1) := dk_4 (dk_at dksX11_isKept_4 18 rfl rfl)
theorem dX11_isKept_112 : decode cX11_isKept 112 = .ok (.iadd, 1) := dk_96 (dk_at dksX11_isKept_4 19 rfl rfl)
theorem dX11_isKept_113 : decode cX11_isKept 113 = .ok (.iload_n 1, 1) := dk_27 (dk_at dksX11_isKept_4 20 rfl rfl)
theorem dX11_isKept_114 : decode cX11_isKept 114 = .ok (.iastore, 1) := dk_79 (dk_at dksX11_isKept_4 21 rfl rfl)
theorem dX11_isKept_115 : decode cX11_isKept 115 = .ok (.aload_n 0, 1) := dk_42 (dk_at dksX11_isKept_4 22 rfl rfl)
theorem dX11_isKept_116 : decode cX11_isKept 116 = .ok (.getfield 111, 3) := dk_180 0 111 (dk_at dksX11_isKept_5 0 rfl rfl)
theorem dX11_isKept_119 : decode cX11_isKept 119 = .ok (.iload_n 3, 1) := dk_29 (dk_at dksX11_isKept_5 3 rfl rfl)
theorem dX11_isKept_120 : decode cX11_isKept 120 = .ok (.iconst 2, 1) := dk_5 (dk_at dksX11_isKept_5 4 rfl rfl)
theorem dX11_isKept_121 : decode cX11_isKept 121 = .ok (.iadd, 1) := dk_96 (dk_at dksX11_isKept_5 5 rfl rfl)
theorem dX11_isKept_122 : decode cX11_isKept 122 = .ok (.iload_n 2, 1) := dk_28 (dk_at dksX11_isKept_5 6 rfl rfl)
theorem dX11_isKept_123 : decode cX11_isKept 123 = .ok (.iastore, 1) := dk_79 (dk_at dksX11_isKept_5 7 rfl rfl)
theorem dX11_isKept_124 : decode cX11_isKept 124 = .ok (.return_, 1) := dk_177 (dk_at dksX11_isKept_5 8 rfl rfl)
abbrev cX11_groupCloses : ByteArray := prog_26_method_52_code
def yX11_groupCloses : MethodName := ⟨RX11, "groupCloses", "()V"⟩
def dkwX11_groupCloses_4 : List UInt8 := [182, 1, 205, 79, 42, 180, 0, 111, 16, 11, 92, 46, 27, 100, 79, 177]
abbrev dktX11_groupCloses_4 : List UInt8 := dkwX11_groupCloses_4 ++ []
def dkwX11_groupCloses_3 : List UInt8 := [180, 0, 120, 60, 42, 27, 182, 1, 202, 154, 0, 4, 177, 42, 27, 182, 1, 186, 42, 180, 0, 111, 6, 42]
abbrev dktX11_groupCloses_3 : List UInt8 := dkwX11_groupCloses_3 ++ dktX11_groupCloses_4
def dkwX11_groupCloses_2 : List UInt8 := [180, 0, 120, 42, 180, 0, 111, 16, 11, 46, 164, 0, 13, 42, 180, 0, 111, 16, 11, 46, 167, 0, 7, 42]
abbrev dktX11_groupCloses_2 : List UInt8 := dkwX11_groupCloses_2 ++ dktX11_groupCloses_3
def dkwX11_groupCloses_1 : List UInt8 := [180, 0, 120, 2, 160, 0, 11, 42, 182, 1, 198, 154, 0, 4, 177, 42, 180, 0, 120, 2, 159, 0, 17, 42]
abbrev dktX11_groupCloses_1 : List UInt8 := dkwX11_groupCloses_1 ++ dktX11_groupCloses_2
def dkwX11_groupCloses_0 : List UInt8 := [42, 180, 0, 111, 16, 11, 46, 153, 0, 29, 42, 180, 0, 111, 16, 10, 46, 4, 159, 0, 18, 42]
abbrev dktX11_groupCloses_0 : List UInt8 := dkwX11_groupCloses_0 ++ dktX11_groupCloses_1
theorem dksX11_groupCloses_0 : cX11_groupCloses.data.toList.drop 0 = dktX11_groupCloses_0 := by decide +kernel
theorem dksX11_groupCloses_1 : cX11_groupCloses.data.toList.drop 22 = dktX11_groupCloses_1 := dk_seg dksX11_groupCloses_0 22 rfl rfl
theorem dksX11_groupCloses_2 : cX11_groupCloses.data.toList.drop 46 = dktX11_groupCloses_2 := dk_seg dksX11_groupCloses_1 24 rfl rfl
theorem dksX11_groupCloses_3 : cX11_groupCloses.data.toList.drop 70 = dktX11_groupCloses_3 := dk_seg dksX11_groupCloses_2 24 rfl rfl
theorem dksX11_groupCloses_4 : cX11_groupCloses.data.toList.drop 94 = dktX11_groupCloses_4 := dk_seg dksX11_groupCloses_3 24 rfl rfl
theorem dX11_groupCloses_0 : decode cX11_groupCloses 0 = .ok (.aload_n 0, 1) := dk_42 (dk_at dksX11_groupCloses_0 0 rfl rfl)
theorem dX11_groupCloses_1 : decode cX11_groupCloses 1 = .ok (.getfield 111, 3) := dk_180 0 111 (dk_at dksX11_groupCloses_0 1 rfl rfl)
theorem dX11_groupCloses_4 : decode cX11_groupCloses 4 = .ok (.bipush 11, 2) := dk_16 11 (dk_at dksX11_groupCloses_0 4 rfl rfl)
theorem dX11_groupCloses_6 : decode cX11_groupCloses 6 = .ok (.iaload, 1) := dk_46 (dk_at dksX11_groupCloses_0 6 rfl rfl)
theorem dX11_groupCloses_7 : decode cX11_groupCloses 7 = .ok (.ifCond .eq 29, 3) := dk_153 0 29 (dk_at dksX11_groupCloses_0 7 rfl rfl)
theorem dX11_groupCloses_10 : decode cX11_groupCloses 10 = .ok (.aload_n 0, 1) := dk_42 (dk_at dksX11_groupCloses_0 10 rfl rfl)
theorem dX11_groupCloses_11 : decode cX11_groupCloses 11 = .ok (.getfield 111, 3) := dk_180 0 111 (dk_at dksX11_groupCloses_0 11 rfl rfl)
theorem dX11_groupCloses_14 : decode cX11_groupCloses 14 = .ok (.bipush 10, 2) := dk_16 10 (dk_at dksX11_groupCloses_0 14 rfl rfl)
theorem dX11_groupCloses_16 : decode cX11_groupCloses 16 = .ok (.iaload, 1) := dk_46 (dk_at dksX11_groupCloses_0 16 rfl rfl)
theorem dX11_groupCloses_17 : decode cX11_groupCloses 17 = .ok (.iconst 1, 1) := dk_4 (dk_at dksX11_groupCloses_0 17 rfl rfl)
theorem dX11_groupCloses_18 : decode cX11_groupCloses 18 = .ok (.if_icmp .eq 18, 3) := dk_159 0 18 (dk_at dksX11_groupCloses_0 18 rfl rfl)
theorem dX11_groupCloses_21 : decode cX11_groupCloses 21 = .ok (.aload_n 0, 1) := dk_42 (dk_at dksX11_groupCloses_0 21 rfl rfl)
theorem dX11_groupCloses_22 : decode cX11_groupCloses 22 = .ok (.getfield 120, 3) := dk_180 0 120 (dk_at dksX11_groupCloses_1 0 rfl rfl)
theorem dX11_groupCloses_25 : decode cX11_groupCloses 25 = .ok (.iconst (-1), 1) := dk_2 (dk_at dksX11_groupCloses_1 3 rfl rfl)
theorem dX11_groupCloses_26 : decode cX11_groupCloses 26 = .ok (.if_icmp .ne 11, 3) := dk_160 0 11 (dk_at dksX11_groupCloses_1 4 rfl rfl)
theorem dX11_groupCloses_29 : decode cX11_groupCloses 29 = .ok (.aload_n 0, 1) := dk_42 (dk_at dksX11_groupCloses_1 7 rfl rfl)
theorem dX11_groupCloses_30 : decode cX11_groupCloses 30 = .ok (.invokevirtual 454, 3) := dk_182 1 198 (dk_at dksX11_groupCloses_1 8 rfl rfl)
theorem dX11_groupCloses_33 : decode cX11_groupCloses 33 = .ok (.ifCond .ne 4, 3) := dk_154 0 4 (dk_at dksX11_groupCloses_1 11 rfl rfl)
theorem dX11_groupCloses_36 : decode cX11_groupCloses 36 = .ok (.return_, 1) := dk_177 (dk_at dksX11_groupCloses_1 14 rfl rfl)
theorem dX11_groupCloses_37 : decode cX11_groupCloses 37 = .ok (.aload_n 0, 1) := dk_42 (dk_at dksX11_groupCloses_1 15 rfl rfl)
theorem dX11_groupCloses_38 : decode cX11_groupCloses 38 = .ok (.getfield 120, 3) := dk_180 0 120 (dk_at dksX11_groupCloses_1 16 rfl rfl)
theorem dX11_groupCloses_41 : decode cX11_groupCloses 41 = .ok (.iconst (-1), 1) := dk_2 (dk_at dksX11_groupCloses_1 19 rfl rfl)
theorem dX11_groupCloses_42 : decode cX11_groupCloses 42 = .ok (.if_icmp .eq 17, 3) := dk_159 0 17 (dk_at dksX11_groupCloses_1 20 rfl rfl)
theorem dX11_groupCloses_45 : decode cX11_groupCloses 45 = .ok (.aload_n 0, 1) := dk_42 (dk_at dksX11_groupCloses_1 23 rfl rfl)
theorem dX11_groupCloses_46 : decode cX11_groupCloses 46 = .ok (.getfield 120, 3) := dk_180 0 120 (dk_at dksX11_groupCloses_2 0 rfl rfl)
theorem dX11_groupCloses_49 : decode cX11_groupCloses 49 = .ok (.aload_n 0, 1) := dk_42 (dk_at dksX11_groupCloses_2 3 rfl rfl)
theorem dX11_groupCloses_50 : decode cX11_groupCloses 50 = .ok (.getfield 111, 3) := dk_180 0 111 (dk_at dksX11_groupCloses_2 4 rfl rfl)
theorem dX11_groupCloses_53 : decode cX11_groupCloses 53 = .ok (.bipush 11, 2) := dk_16 11 (dk_at dksX11_groupCloses_2 7 rfl rfl)
theorem dX11_groupCloses_55 : decode cX11_groupCloses 55 = .ok (.iaload, 1) := dk_46 (dk_at dksX11_groupCloses_2 9 rfl rfl)
theorem dX11_groupCloses_56 : decode cX11_groupCloses 56 = .ok (.if_icmp .le 13, 3) := dk_164 0 13 (dk_at dksX11_groupCloses_2 10 rfl rfl)
theorem dX11_groupCloses_59 : decode cX11_groupCloses 59 = .ok (.aload_n 0, 1) := dk_42 (dk_at dksX11_groupCloses_2 13 rfl rfl)
theorem dX11_groupCloses_60 : decode cX11_groupCloses 60 = .ok (.getfield 111, 3) := dk_180 0 111 (dk_at dksX11_groupCloses_2 14 rfl rfl)
theorem dX11_groupCloses_63 : decode cX11_groupCloses 63 = .ok (.bipush 11, 2) := dk_16 11 (dk_at dksX11_groupCloses_2 17 rfl rfl)
theorem dX11_groupCloses_65 : decode cX11_groupCloses 65 = .ok (.iaload, 1) := dk_46 (dk_at dksX11_groupCloses_2 19 rfl rfl)
theorem dX11_groupCloses_66 : decode cX11_groupCloses 66 = .ok (.goto 7, 3) := dk_167 0 7 (dk_at dksX11_groupCloses_2 20 rfl rfl)
theorem dX11_groupCloses_69 : decode cX11_groupCloses 69 = .ok (.aload_n 0, 1) := dk_42 (dk_at dksX11_groupCloses_2 23 rfl rfl)
theorem dX11_groupCloses_70 : decode cX11_groupCloses 70 = .ok (.getfield 120, 3) := dk_180 0 120 (dk_at dksX11_groupCloses_3 0 rfl rfl)
theorem dX11_groupCloses_73 : decode cX11_groupCloses 73 = .ok (.istore_n 1, 1) := dk_60 (dk_at dksX11_groupCloses_3 3 rfl rfl)
theorem dX11_groupCloses_74 : decode cX11_groupCloses 74 = .ok (.aload_n 0, 1) := dk_42 (dk_at dksX11_groupCloses_3 4 rfl rfl)
theorem dX11_groupCloses_75 : decode cX11_groupCloses 75 = .ok (.iload_n 1, 1) := dk_27 (dk_at dksX11_groupCloses_3 5 rfl rfl)
theorem dX11_groupCloses_76 : decode cX11_groupCloses 76 = .ok (.invokevirtual 458, 3) := dk_182 1 202 (dk_at dksX11_groupCloses_3 6 rfl rfl)
theorem dX11_groupCloses_79 : decode cX11_groupCloses 79 = .ok (.ifCond .ne 4, 3) := dk_154 0 4 (dk_at dksX11_groupCloses_3 9 rfl rfl)
theorem dX11_groupCloses_82 : decode cX11_groupCloses 82 = .ok (.return_, 1) := dk_177 (dk_at dksX11_groupCloses_3 12 rfl rfl)
theorem dX11_groupCloses_83 : decode cX11_groupCloses 83 = .ok (.aload_n 0, 1) := dk_42 (dk_at dksX11_groupCloses_3 13 rfl rfl)
theorem dX11_groupCloses_84 : decode cX11_groupCloses 84 = .ok (.iload_n 1, 1) := dk_27 (dk_at dksX11_groupCloses_3 14 rfl rfl)
theorem dX11_groupCloses_85 : decode cX11_groupCloses 85 = .ok (.invokevirtual 442, 3) := dk_182 1 186 (dk_at dksX11_groupCloses_3 15 rfl rfl)
theorem dX11_groupCloses_88 : decode cX11_groupCloses 88 = .ok (.aload_n 0, 1) := dk_42 (dk_at dksX11_groupCloses_3 18 rfl rfl)
theorem dX11_groupCloses_89 : decode cX11_groupCloses 89 = .ok (.getfield 111, 3) := dk_180 0 111 (dk_at dksX11_groupCloses_3 19 rfl rfl)
theorem dX11_groupCloses_92 : decode cX11_groupCloses 92 = .ok (.iconst 3, 1) := dk_6 (dk_at dksX11_groupCloses_3 22 rfl rfl)
theorem dX11_groupCloses_93 : decode cX11_groupCloses 93 = .ok (.aload_n 0, 1) := dk_42 (dk_at dksX11_groupCloses_3 23 rfl rfl)
theorem dX11_groupCloses_94 : decode cX11_groupCloses 94 = .ok (.invokevirtual 461, 3) := dk_182 1 205 (dk_at dksX11_groupCloses_4 0 rfl rfl)
theorem dX11_groupCloses_97 : decode cX11_groupCloses 97 = .ok (.iastore, 1) := dk_79 (dk_at dksX11_groupCloses_4 3 rfl rfl)
theorem dX11_groupCloses_98 : decode cX11_groupCloses 98 = .ok (.aload_n 0, 1) := dk_42 (dk_at dksX11_groupCloses_4 4 rfl rfl)
theorem dX11_groupCloses_99 : decode cX11_groupCloses 99 = .ok (.getfield 111, 3) := dk_180 0 111 (dk_at dksX11_groupCloses_4 5 rfl rfl)
theorem dX11_groupCloses_102 : decode cX11_groupCloses 102 = .ok (.bipush 11, 2) := dk_16 11 (dk_at dksX11_groupCloses_4 8 rfl rfl)
theorem dX11_groupCloses_104 : decode cX11_groupCloses 104 = .ok (.dup2, 1) := dk_92 (dk_at dksX11_groupCloses_4 10 rfl rfl)
theorem dX11_groupCloses_105 : decode cX11_groupCloses 105 = .ok (.iaload, 1) := dk_46 (dk_at dksX11_groupCloses_4 11 rfl rfl)
theorem dX11_groupCloses_106 : decode cX11_groupCloses 106 = .ok (.iload_n 1, 1) := dk_27 (dk_at dksX11_groupCloses_4 12 rfl rfl)
theorem dX11_groupCloses_107 : decode cX11_groupCloses 107 = .ok (.isub, 1) := dk_100 (dk_at dksX11_groupCloses_4 13 rfl rfl)
theorem dX11_groupCloses_108 : decode cX11_groupCloses 108 = .ok (.iastore, 1) := dk_79 (dk_at dksX11_groupCloses_4 14 rfl rfl)
theorem dX11_groupCloses_109 : decode cX11_groupCloses 109 = .ok (.return_, 1) := dk_177 (dk_at dksX11_groupCloses_4 15 rfl rfl)
abbrev cX11_doesClose : ByteArray := prog_26_method_50_code
def yX11_doesClose : MethodName := ⟨RX11, "doesClose", "()Z"⟩
def dkwX11_doesClose_3 : List UInt8 := [100, 7, 164, 0, 7, 4, 167, 0, 4, 3, 172]
abbrev dktX11_doesClose_3 : List UInt8 := dkwX11_doesClose_3 ++ []
def dkwX11_doesClose_2 : List UInt8 := [180, 0, 111, 3, 46, 42, 42, 180, 0, 111, 4, 46, 42, 180, 0, 111, 16, 11, 46, 100, 6, 182, 1, 107]
abbrev dktX11_doesClose_2 : List UInt8 := dkwX11_doesClose_2 ++ dktX11_doesClose_3
def dkwX11_doesClose_1 : List UInt8 := [10, 148, 154, 0, 7, 4, 167, 0, 4, 3, 172, 42, 180, 0, 111, 16, 11, 46, 6, 163, 0, 33, 42]
abbrev dktX11_doesClose_1 : List UInt8 := dkwX11_doesClose_1 ++ dktX11_doesClose_2
def dkwX11_doesClose_0 : List UInt8 := [42, 42, 180, 0, 111, 16, 11, 46, 182, 1, 186, 42, 3, 182, 1, 189, 153, 0, 19, 42, 3, 182, 1, 192]
abbrev dktX11_doesClose_0 : List UInt8 := dkwX11_doesClose_0 ++ dktX11_doesClose_1
theorem dksX11_doesClose_0 : cX11_doesClose.data.toList.drop 0 = dktX11_doesClose_0 := by decide +kernel
theorem dksX11_doesClose_1 : cX11_doesClose.data.toList.drop 24 = dktX11_doesClose_1 := dk_seg dksX11_doesClose_0 24 rfl rfl
theorem dksX11_doesClose_2 : cX11_doesClose.data.toList.drop 47 = dktX11_doesClose_2 := dk_seg dksX11_doesClose_1 23 rfl rfl
theorem dksX11_doesClose_3 : cX11_doesClose.data.toList.drop 71 = dktX11_doesClose_3 := dk_seg dksX11_doesClose_2 24 rfl rfl
theorem dX11_doesClose_0 : decode cX11_doesClose 0 = .ok (.aload_n 0, 1) := dk_42 (dk_at dksX11_doesClose_0 0 rfl rfl)
theorem dX11_doesClose_1 : decode cX11_doesClose 1 = .ok (.aload_n 0, 1) := dk_42 (dk_at dksX11_doesClose_0 1 rfl rfl)
theorem dX11_doesClose_2 : decode cX11_doesClose 2 = .ok (.getfield 111, 3) := dk_180 0 111 (dk_at dksX11_doesClose_0 2 rfl rfl)
theorem dX11_doesClose_5 : decode cX11_doesClose 5 = .ok (.bipush 11, 2) := dk_16 11 (dk_at dksX11_doesClose_0 5 rfl rfl)
theorem dX11_doesClose_7 : decode cX11_doesClose 7 = .ok (.iaload, 1) := dk_46 (dk_at dksX11_doesClose_0 7 rfl rfl)
theorem dX11_doesClose_8 : decode cX11_doesClose 8 = .ok (.invokevirtual 442, 3) := dk_182 1 186 (dk_at dksX11_doesClose_0 8 rfl rfl)
theorem dX11_doesClose_11 : decode cX11_doesClose 11 = .ok (.aload_n 0, 1) := dk_42 (dk_at dksX11_doesClose_0 11 rfl rfl)
theorem dX11_doesClose_12 : decode cX11_doesClose 12 = .ok (.iconst 0, 1) := dk_3 (dk_at dksX11_doesClose_0 12 rfl rfl)
theorem dX11_doesClose_13 : decode cX11_doesClose 13 = .ok (.invokevirtual 445, 3) := dk_182 1 189 (dk_at dksX11_doesClose_0 13 rfl rfl)
theorem dX11_doesClose_16 : decode cX11_doesClose 16 = .ok (.ifCond .eq 19, 3) := dk_153 0 19 (dk_at dksX11_doesClose_0 16 rfl rfl)
theorem dX11_doesClose_19 : decode cX11_doesClose 19 = .ok (.aload_n 0, 1) := dk_42 (dk_at dksX11_doesClose_0 19 rfl rfl)
theorem dX11_doesClose_20 : decode cX11_doesClose 20 = .ok (.iconst 0, 1) := dk_3 (dk_at dksX11_doesClose_0 20 rfl rfl)
theorem dX11_doesClose_21 : decode cX11_doesClose 21 = .ok (.invokevirtual 448, 3) := dk_182 1 192 (dk_at dksX11_doesClose_0 21 rfl rfl)
theorem dX11_doesClose_24 : decode cX11_doesClose 24 = .ok (.lconst 1, 1) := dk_10 (dk_at dksX11_doesClose_1 0 rfl rfl)
theorem dX11_doesClose_25 : decode cX11_doesClose 25 = .ok (.lcmp, 1) := dk_148 (dk_at dksX11_doesClose_1 1 rfl rfl)
theorem dX11_doesClose_26 : decode cX11_doesClose 26 = .ok (.ifCond .ne 7, 3) := dk_154 0 7 (dk_at dksX11_doesClose_1 2 rfl rfl)
theorem dX11_doesClose_29 : decode cX11_doesClose 29 = .ok (.iconst 1, 1) := dk_4 (dk_at dksX11_doesClose_1 5 rfl rfl)
theorem dX11_doesClose_30 : decode cX11_doesClose 30 = .ok (.goto 4, 3) := dk_167 0 4 (dk_at dksX11_doesClose_1 6 rfl rfl)
theorem dX11_doesClose_33 : decode cX11_doesClose 33 = .ok (.iconst 0, 1) := dk_3 (dk_at dksX11_doesClose_1 9 rfl rfl)
theorem dX11_doesClose_34 : decode cX11_doesClose 34 = .ok (.ireturn, 1) := dk_172 (dk_at dksX11_doesClose_1 10 rfl rfl)
theorem dX11_doesClose_35 : decode cX11_doesClose 35 = .ok (.aload_n 0, 1) := dk_42 (dk_at dksX11_doesClose_1 11 rfl rfl)
theorem dX11_doesClose_36 : decode cX11_doesClose 36 = .ok (.getfield 111, 3) := dk_180 0 111 (dk_at dksX11_doesClose_1 12 rfl rfl)
theorem dX11_doesClose_39 : decode cX11_doesClose 39 = .ok (.bipush 11, 2) := dk_16 11 (dk_at dksX11_doesClose_1 15 rfl rfl)
theorem dX11_doesClose_41 : decode cX11_doesClose 41 = .ok (.iaload, 1) := dk_46 (dk_at dksX11_doesClose_1 17 rfl rfl)
theorem dX11_doesClose_42 : decode cX11_doesClose 42 = .ok (.iconst 3, 1) := dk_6 (dk_at dksX11_doesClose_1 18 rfl rfl)
theorem dX11_doesClose_43 : decode cX11_doesClose 43 = .ok (.if_icmp .gt 33, 3) := dk_163 0 33 (dk_at dksX11_doesClose_1 19 rfl rfl)
theorem dX11_doesClose_46 : decode cX11_doesClose 46 = .ok (.aload_n 0, 1) := dk_42 (dk_at dksX11_doesClose_1 22 rfl rfl)
theorem dX11_doesClose_47 : decode cX11_doesClose 47 = .ok (.getfield 111, 3) := dk_180 0 111 (dk_at dksX11_doesClose_2 0 rfl rfl)
theorem dX11_doesClose_50 : decode cX11_doesClose 50 = .ok (.iconst 0, 1) := dk_3 (dk_at dksX11_doesClose_2 3 rfl rfl)
theorem dX11_doesClose_51 : decode cX11_doesClose 51 = .ok (.iaload, 1) := dk_46 (dk_at dksX11_doesClose_2 4 rfl rfl)
theorem dX11_doesClose_52 : decode cX11_doesClose 52 = .ok (.aload_n 0, 1) := dk_42 (dk_at dksX11_doesClose_2 5 rfl rfl)
theorem dX11_doesClose_53 : decode cX11_doesClose 53 = .ok (.aload_n 0, 1) := dk_42 (dk_at dksX11_doesClose_2 6 rfl rfl)
theorem dX11_doesClose_54 : decode cX11_doesClose 54 = .ok (.getfield 111, 3) := dk_180 0 111 (dk_at dksX11_doesClose_2 7 rfl rfl)
theorem dX11_doesClose_57 : decode cX11_doesClose 57 = .ok (.iconst 1, 1) := dk_4 (dk_at dksX11_doesClose_2 10 rfl rfl)
theorem dX11_doesClose_58 : decode cX11_doesClose 58 = .ok (.iaload, 1) := dk_46 (dk_at dksX11_doesClose_2 11 rfl rfl)
theorem dX11_doesClose_59 : decode cX11_doesClose 59 = .ok (.aload_n 0, 1) := dk_42 (dk_at dksX11_doesClose_2 12 rfl rfl)
theorem dX11_doesClose_60 : decode cX11_doesClose 60 = .ok (.getfield 111, 3) := dk_180 0 111 (dk_at dksX11_doesClose_2 13 rfl rfl)
theorem dX11_doesClose_63 : decode cX11_doesClose 63 = .ok (.bipush 11, 2) := dk_16 11 (dk_at dksX11_doesClose_2 16 rfl rfl)
theorem dX11_doesClose_65 : decode cX11_doesClose 65 = .ok (.iaload, 1) := dk_46 (dk_at dksX11_doesClose_2 18 rfl rfl)
theorem dX11_doesClose_66 : decode cX11_doesClose 66 = .ok (.isub, 1) := dk_100 (dk_at dksX11_doesClose_2 19 rfl rfl)
theorem dX11_doesClose_67 : decode cX11_doesClose 67 = .ok (.iconst 3, 1) := dk_6 (dk_at dksX11_doesClose_2 20 rfl rfl)
theorem dX11_doesClose_68 : decode cX11_doesClose 68 = .ok (.invokevirtual 363, 3) := dk_182 1 107 (dk_at dksX11_doesClose_2 21 rfl rfl)
theorem dX11_doesClose_71 : decode cX11_doesClose 71 = .ok (.isub, 1) := dk_100 (dk_at dksX11_doesClose_3 0 rfl rfl)
theorem dX11_doesClose_72 : decode cX11_doesClose 72 = .ok (.iconst 4, 1) := dk_7 (dk_at dksX11_doesClose_3 1 rfl rfl)
theorem dX11_doesClose_73 : decode cX11_doesClose 73 = .ok (.if_icmp .le 7, 3) := dk_164 0 7 (dk_at dksX11_doesClose_3 2 rfl rfl)
theorem dX11_doesClose_76 : decode cX11_doesClose 76 = .ok (.iconst 1, 1) := dk_4 (dk_at dksX11_doesClose_3 5 rfl rfl)
theorem dX11_doesClose_77 : decode cX11_doesClose 77 = .ok (.goto 4, 3) := dk_167 0 4 (dk_at dksX11_doesClose_3 6 rfl rfl)
theorem dX11_doesClose_80 : decode cX11_doesClose 80 = .ok (.iconst 0, 1) := dk_3 (dk_at dksX11_doesClose_3 9 rfl rfl)
theorem dX11_doesClose_81 : decode cX11_doesClose 81 = .ok (.ireturn, 1) := dk_172 (dk_at dksX11_doesClose_3 10 rfl rfl)
abbrev cX11_asksOf : ByteArray := prog_26_method_49_code
def yX11_asksOf : MethodName := ⟨RX11, "asksOf", "(I)V"⟩
def dkwX11_asksOf_2 : List UInt8 := [181, 1, 183, 132, 3, 1, 167, 255, 232, 177]
abbrev dktX11_asksOf_2 : List UInt8 := dkwX11_asksOf_2 ++ []
def dkwX11_asksOf_1 : List UInt8 := [181, 1, 183, 3, 62, 29, 27, 162, 0, 25, 42, 89, 180, 1, 183, 42, 28, 29, 96, 182, 1, 152, 96]
abbrev dktX11_asksOf_1 : List UInt8 := dkwX11_asksOf_1 ++ dktX11_asksOf_2
def dkwX11_asksOf_0 : List UInt8 := [42, 180, 0, 111, 4, 46, 42, 180, 0, 111, 16, 11, 46, 100, 61, 42, 27, 181, 1, 180, 42, 3]
abbrev dktX11_asksOf_0 : List UInt8 := dkwX11_asksOf_0 ++ dktX11_asksOf_1
theorem dksX11_asksOf_0 : cX11_asksOf.data.toList.drop 0 = dktX11_asksOf_0 := by decide +kernel
theorem dksX11_asksOf_1 : cX11_asksOf.data.toList.drop 22 = dktX11_asksOf_1 := dk_seg dksX11_asksOf_0 22 rfl rfl
theorem dksX11_asksOf_2 : cX11_asksOf.data.toList.drop 45 = dktX11_asksOf_2 := dk_seg dksX11_asksOf_1 23 rfl rfl
theorem dX11_asksOf_0 : decode cX11_asksOf 0 = .ok (.aload_n 0, 1) := dk_42 (dk_at dksX11_asksOf_0 0 rfl rfl)
theorem dX11_asksOf_1 : decode cX11_asksOf 1 = .ok (.getfield 111, 3) := dk_180 0 111 (dk_at dksX11_asksOf_0 1 rfl rfl)
theorem dX11_asksOf_4 : decode cX11_asksOf 4 = .ok (.iconst 1, 1) := dk_4 (dk_at dksX11_asksOf_0 4 rfl rfl)
theorem dX11_asksOf_5 : decode cX11_asksOf 5 = .ok (.iaload, 1) := dk_46 (dk_at dksX11_asksOf_0 5 rfl rfl)
theorem dX11_asksOf_6 : decode cX11_asksOf 6 = .ok (.aload_n 0, 1) := dk_42 (dk_at dksX11_asksOf_0 6 rfl rfl)
theorem dX11_asksOf_7 : decode cX11_asksOf 7 = .ok (.getfield 111, 3) := dk_180 0 111 (dk_at dksX11_asksOf_0 7 rfl rfl)
theorem dX11_asksOf_10 : decode cX11_asksOf 10 = .ok (.bipush 11, 2) := dk_16 11 (dk_at dksX11_asksOf_0 10 rfl rfl)
theorem dX11_asksOf_12 : decode cX11_asksOf 12 = .ok (.iaload, 1) := dk_46 (dk_at dksX11_asksOf_0 12 rfl rfl)
theorem dX11_asksOf_13 : decode cX11_asksOf 13 = .ok (.isub, 1) := dk_100 (dk_at dksX11_asksOf_0 13 rfl rfl)
theorem dX11_asksOf_14 : decode cX11_asksOf 14 = .ok (.istore_n 2, 1) := dk_61 (dk_at dksX11_asksOf_0 14 rfl rfl)
theorem dX11_asksOf_15 : decode cX11_asksOf 15 = .ok (.aload_n 0, 1) := dk_42 (dk_at dksX11_asksOf_0 15 rfl rfl)
theorem dX11_asksOf_16 : decode cX11_asksOf 16 = .ok (.iload_n 1, 1) := dk_27 (dk_at dksX11_asksOf_0 16 rfl rfl)
theorem dX11_asksOf_17 : decode cX11_asksOf 17 = .ok (.putfield 436, 3) := dk_181 1 180 (dk_at dksX11_asksOf_0 17 rfl rfl)
theorem dX11_asksOf_20 : decode cX11_asksOf 20 = .ok (.aload_n 0, 1) := dk_42 (dk_at dksX11_asksOf_0 20 rfl rfl)
theorem dX11_asksOf_21 : decode cX11_asksOf 21 = .ok (.iconst 0, 1) := dk_3 (dk_at dksX11_asksOf_0 21 rfl rfl)
theorem dX11_asksOf_22 : decode cX11_asksOf 22 = .ok (.putfield 439, 3) := dk_181 1 183 (dk_at dksX11_asksOf_1 0 rfl rfl)
theorem dX11_asksOf_25 : decode cX11_asksOf 25 = .ok (.iconst 0, 1) := dk_3 (dk_at dksX11_asksOf_1 3 rfl rfl)
theorem dX11_asksOf_26 : decode cX11_asksOf 26 = .ok (.istore_n 3, 1) := dk_62 (dk_at dksX11_asksOf_1 4 rfl rfl)
theorem dX11_asksOf_27 : decode cX11_asksOf 27 = .ok (.iload_n 3, 1) := dk_29 (dk_at dksX11_asksOf_1 5 rfl rfl)
theorem dX11_asksOf_28 : decode cX11_asksOf 28 = .ok (.iload_n 1, 1) := dk_27 (dk_at dksX11_asksOf_1 6 rfl rfl)
theorem dX11_asksOf_29 : decode cX11_asksOf 29 = .ok (.if_icmp .ge 25, 3) := dk_162 0 25 (dk_at dksX11_asksOf_1 7 rfl rfl)
theorem dX11_asksOf_32 : decode cX11_asksOf 32 = .ok (.aload_n 0, 1) := dk_42 (dk_at dksX11_asksOf_1 10 rfl rfl)
theorem dX11_asksOf_33 : decode cX11_asksOf 33 = .ok (.dup, 1) := dk_89 (dk_at dksX11_asksOf_1 11 rfl rfl)
theorem dX11_asksOf_34 : decode cX11_asksOf 34 = .ok (.getfield 439, 3) := dk_180 1 183 (dk_at dksX11_asksOf_1 12 rfl rfl)
theorem dX11_asksOf_37 : decode cX11_asksOf 37 = .ok (.aload_n 0, 1) := dk_42 (dk_at dksX11_asksOf_1 15 rfl rfl)
theorem dX11_asksOf_38 : decode cX11_asksOf 38 = .ok (.iload_n 2, 1) := dk_28 (dk_at dksX11_asksOf_1 16 rfl rfl)
theorem dX11_asksOf_39 : decode cX11_asksOf 39 = .ok (.iload_n 3, 1) := dk_29 (dk_at dksX11_asksOf_1 17 rfl rfl)
theorem dX11_asksOf_40 : decode cX11_asksOf 40 = .ok (.iadd, 1) := dk_96 (dk_at dksX11_asksOf_1 18 rfl rfl)
theorem dX11_asksOf_41 : decode cX11_asksOf 41 = .ok (.invokevirtual 408, 3) := dk_182 1 152 (dk_at dksX11_asksOf_1 19 rfl rfl)
theorem dX11_asksOf_44 : decode cX11_asksOf 44 = .ok (.iadd, 1) := dk_96 (dk_at dksX11_asksOf_1 22 rfl rfl)
theorem dX11_asksOf_45 : decode cX11_asksOf 45 = .ok (.putfield 439, 3) := dk_181 1 183 (dk_at dksX11_asksOf_2 0 rfl rfl)
theorem dX11_asksOf_48 : decode cX11_asksOf 48 = .ok (.iinc 3 1, 3) := dk_132 3 1 (dk_at dksX11_asksOf_2 3 rfl rfl)
theorem dX11_asksOf_51 : decode cX11_asksOf 51 = .ok (.goto (-24), 3) := dk_167 255 232 (dk_at dksX11_asksOf_2 6 rfl rfl)
theorem dX11_asksOf_54 : decode cX11_asksOf 54 = .ok (.return_, 1) := dk_177 (dk_at dksX11_asksOf_2 9 rfl rfl)
abbrev cX11_payloadOf : ByteArray := prog_26_method_31_code
def yX11_payloadOf : MethodName := ⟨RX11, "payloadOf", "(I)I"⟩
def dkwX11_payloadOf_0 : List UInt8 := [6, 42, 27, 5, 182, 1, 107, 96, 172]
abbrev dktX11_payloadOf_0 : List UInt8 := dkwX11_payloadOf_0 ++ []
theorem dksX11_payloadOf_0 : cX11_payloadOf.data.toList.drop 0 = dktX11_payloadOf_0 := by decide +kernel
theorem dX11_payloadOf_0 : decode cX11_payloadOf 0 = .ok (.iconst 3, 1) := dk_6 (dk_at dksX11_payloadOf_0 0 rfl rfl)
theorem dX11_payloadOf_1 : decode cX11_payloadOf 1 = .ok (.aload_n 0, 1) := dk_42 (dk_at dksX11_payloadOf_0 1 rfl rfl)
theorem dX11_payloadOf_2 : decode cX11_payloadOf 2 = .ok (.iload_n 1, 1) := dk_27 (dk_at dksX11_payloadOf_0 2 rfl rfl)
theorem dX11_payloadOf_3 : decode cX11_payloadOf 3 = .ok (.iconst 2, 1) := dk_5 (dk_at dksX11_payloadOf_0 3 rfl rfl)
theorem dX11_payloadOf_4 : decode cX11_payloadOf 4 = .ok (.invokevirtual 363, 3) := dk_182 1 107 (dk_at dksX11_payloadOf_0 4 rfl rfl)
theorem dX11_payloadOf_7 : decode cX11_payloadOf 7 = .ok (.iadd, 1) := dk_96 (dk_at dksX11_payloadOf_0 7 rfl rfl)
theorem dX11_payloadOf_8 : decode cX11_payloadOf 8 = .ok (.ireturn, 1) := dk_172 (dk_at dksX11_payloadOf_0 8 rfl rfl)
abbrev cX11_isCoded : ByteArray := prog_26_method_33_code
def yX11_isCoded : MethodName := ⟨RX11, "isCoded", "(I)Z"⟩
def dkwX11_isCoded_0 : List UInt8 := [42, 180, 0, 102, 5, 27, 96, 46, 2, 159, 0, 7, 4, 167, 0, 4, 3, 172]
abbrev dktX11_isCoded_0 : List UInt8 := dkwX11_isCoded_0 ++ []
theorem dksX11_isCoded_0 : cX11_isCoded.data.toList.drop 0 = dktX11_isCoded_0 := by decide +kernel
theorem dX11_isCoded_0 : decode cX11_isCoded 0 = .ok (.aload_n 0, 1) := dk_42 (dk_at dksX11_isCoded_0 0 rfl rfl)
theorem dX11_isCoded_1 : decode cX11_isCoded 1 = .ok (.getfield 102, 3) := dk_180 0 102 (dk_at dksX11_isCoded_0 1 rfl rfl)
theorem dX11_isCoded_4 : decode cX11_isCoded 4 = .ok (.iconst 2, 1) := dk_5 (dk_at dksX11_isCoded_0 4 rfl rfl)
theorem dX11_isCoded_5 : decode cX11_isCoded 5 = .ok (.iload_n 1, 1) := dk_27 (dk_at dksX11_isCoded_0 5 rfl rfl)
theorem dX11_isCoded_6 : decode cX11_isCoded 6 = .ok (.iadd, 1) := dk_96 (dk_at dksX11_isCoded_0 6 rfl rfl)
theorem dX11_isCoded_7 : decode cX11_isCoded 7 = .ok (.iaload, 1) := dk_46 (dk_at dksX11_isCoded_0 7 rfl rfl)
theorem dX11_isCoded_8 : decode cX11_isCoded 8 = .ok (.iconst (-1), 1) := dk_2 (dk_at dksX11_isCoded_0 8 rfl rfl)
theorem dX11_isCoded_9 : decode cX11_isCoded 9 = .ok (.if_icmp .eq 7, 3) := dk_159 0 7 (dk_at dksX11_isCoded_0 9 rfl rfl)
theorem dX11_isCoded_12 : decode cX11_isCoded 12 = .ok (.iconst 1, 1) := dk_4 (dk_at dksX11_isCoded_0 12 rfl rfl)
theorem dX11_isCoded_13 : decode cX11_isCoded 13 = .ok (.goto 4, 3) := dk_167 0 4 (dk_at dksX11_isCoded_0 13 rfl rfl)
theorem dX11_isCoded_16 : decode cX11_isCoded 16 = .ok (.iconst 0, 1) := dk_3 (dk_at dksX11_isCoded_0 16 rfl rfl)
theorem dX11_isCoded_17 : decode cX11_isCoded 17 = .ok (.ireturn, 1) := dk_172 (dk_at dksX11_isCoded_0 17 rfl rfl)
abbrev cX11_codesTell : ByteArray := prog_26_method_34_code
def yX11_codesTell : MethodName := ⟨RX11, "codesTell", "(I)J"⟩
def dkwX11_codesTell_6 : List UInt8 := [167, 255, 136, 42, 180, 0, 222, 3, 47, 173]
abbrev dktX11_codesTell_6 : List UInt8 := dkwX11_codesTell_6 ++ []
def dkwX11_codesTell_5 : List UInt8 := [180, 0, 222, 42, 180, 1, 110, 4, 100, 47, 101, 80, 167, 0, 8, 42, 29, 182, 1, 121, 132, 2, 1]
abbrev dktX11_codesTell_5 : List UInt8 := dkwX11_codesTell_5 ++ dktX11_codesTell_6
def dkwX11_codesTell_4 : List UInt8 := [182, 1, 113, 167, 0, 41, 29, 16, 12, 160, 0, 30, 42, 180, 0, 222, 42, 180, 1, 110, 4, 100, 10, 42]
abbrev dktX11_codesTell_4 : List UInt8 := dkwX11_codesTell_4 ++ dktX11_codesTell_5
def dkwX11_codesTell_3 : List UInt8 := [29, 16, 40, 100, 3, 182, 1, 117, 182, 1, 113, 167, 0, 55, 29, 16, 13, 160, 0, 11, 42, 10]
abbrev dktX11_codesTell_3 : List UInt8 := dkwX11_codesTell_3 ++ dktX11_codesTell_4
def dkwX11_codesTell_2 : List UInt8 := [161, 0, 16, 42, 29, 17, 3, 232, 100, 133, 182, 1, 113, 167, 0, 77, 29, 16, 40, 161, 0, 19, 42, 42]
abbrev dktX11_codesTell_2 : List UInt8 := dkwX11_codesTell_2 ++ dktX11_codesTell_3
def dkwX11_codesTell_1 : List UInt8 := [5, 27, 96, 46, 162, 0, 114, 42, 180, 0, 108, 17, 6, 64, 28, 96, 46, 62, 29, 17, 3, 232]
abbrev dktX11_codesTell_1 : List UInt8 := dkwX11_codesTell_1 ++ dktX11_codesTell_2
def dkwX11_codesTell_0 : List UInt8 := [42, 27, 181, 1, 23, 42, 3, 181, 1, 110, 42, 180, 0, 102, 5, 27, 96, 46, 61, 28, 42, 180, 0, 105]
abbrev dktX11_codesTell_0 : List UInt8 := dkwX11_codesTell_0 ++ dktX11_codesTell_1
theorem dksX11_codesTell_0 : cX11_codesTell.data.toList.drop 0 = dktX11_codesTell_0 := by decide +kernel
theorem dksX11_codesTell_1 : cX11_codesTell.data.toList.drop 24 = dktX11_codesTell_1 := dk_seg dksX11_codesTell_0 24 rfl rfl
theorem dksX11_codesTell_2 : cX11_codesTell.data.toList.drop 46 = dktX11_codesTell_2 := dk_seg dksX11_codesTell_1 22 rfl rfl
theorem dksX11_codesTell_3 : cX11_codesTell.data.toList.drop 70 = dktX11_codesTell_3 := dk_seg dksX11_codesTell_2 24 rfl rfl
theorem dksX11_codesTell_4 : cX11_codesTell.data.toList.drop 92 = dktX11_codesTell_4 := dk_seg dksX11_codesTell_3 22 rfl rfl
theorem dksX11_codesTell_5 : cX11_codesTell.data.toList.drop 116 = dktX11_codesTell_5 := dk_seg dksX11_codesTell_4 24 rfl rfl
theorem dksX11_codesTell_6 : cX11_codesTell.data.toList.drop 139 = dktX11_codesTell_6 := dk_seg dksX11_codesTell_5 23 rfl rfl
theorem dX11_codesTell_0 : decode cX11_codesTell 0 = .ok (.aload_n 0, 1) := dk_42 (dk_at dksX11_codesTell_0 0 rfl rfl)
theorem dX11_codesTell_1 : decode cX11_codesTell 1 = .ok (.iload_n 1, 1) := dk_27 (dk_at dksX11_codesTell_0 1 rfl rfl)
theorem dX11_codesTell_2 : decode cX11_codesTell 2 = .ok (.putfield 279, 3) := dk_181 1 23 (dk_at dksX11_codesTell_0 2 rfl rfl)
theorem dX11_codesTell_5 : decode cX11_codesTell 5 = .ok (.aload_n 0, 1) := dk_42 (dk_at dksX11_codesTell_0 5 rfl rfl)
theorem dX11_codesTell_6 : decode cX11_codesTell 6 = .ok (.iconst 0, 1) := dk_3 (dk_at dksX11_codesTell_0 6 rfl rfl)
theorem dX11_codesTell_7 : decode cX11_codesTell 7 = .ok (.putfield 366, 3) := dk_181 1 110 (dk_at dksX11_codesTell_0 7 rfl rfl)
theorem dX11_codesTell_10 : decode cX11_codesTell 10 = .ok (.aload_n 0, 1) := dk_42 (dk_at dksX11_codesTell_0 10 rfl rfl)
theorem dX11_codesTell_11 : decode cX11_codesTell 11 = .ok (.getfield 102, 3) := dk_180 0 102 (dk_at dksX11_codesTell_0 11 rfl rfl)
theorem dX11_codesTell_14 : decode cX11_codesTell 14 = .ok (.iconst 2, 1) := dk_5 (dk_at dksX11_codesTell_0 14 rfl rfl)
theorem dX11_codesTell_15 : decode cX11_codesTell 15 = .ok (.iload_n 1, 1) := dk_27 (dk_at dksX11_codesTell_0 15 rfl rfl)
theorem dX11_codesTell_16 : decode cX11_codesTell 16 = .ok (.iadd, 1) := dk_96 (dk_at dksX11_codesTell_0 16 rfl rfl)
theorem dX11_codesTell_17 : decode cX11_codesTell 17 = .ok (.iaload, 1) := dk_46 (dk_at dksX11_codesTell_0 17 rfl rfl)
theorem dX11_codesTell_18 : decode cX11_codesTell 18 = .ok (.istore_n 2, 1) := dk_61 (dk_at dksX11_codesTell_0 18 rfl rfl)
theorem dX11_codesTell_19 : decode cX11_codesTell 19 = .ok (.iload_n 2, 1) := dk_28 (dk_at dksX11_codesTell_0 19 rfl rfl)
theorem dX11_codesTell_20 : decode cX11_codesTell 20 = .ok (.aload_n 0, 1) := dk_42 (dk_at dksX11_codesTell_0 20 rfl rfl)
theorem dX11_codesTell_21 : decode cX11_codesTell 21 = .ok (.getfield 105, 3) := dk_180 0 105 (dk_at dksX11_codesTell_0 21 rfl rfl)
theorem dX11_codesTell_24 : decode cX11_codesTell 24 = .ok (.iconst 2, 1) := dk_5 (dk_at dksX11_codesTell_1 0 rfl rfl)
theorem dX11_codesTell_25 : decode cX11_codesTell 25 = .ok (.iload_n 1, 1) := dk_27 (dk_at dksX11_codesTell_1 1 rfl rfl)
theorem dX11_codesTell_26 : decode cX11_codesTell 26 = .ok (.iadd, 1) := dk_96 (dk_at dksX11_codesTell_1 2 rfl rfl)
theorem dX11_codesTell_27 : decode cX11_codesTell 27 = .ok (.iaload, 1) := dk_46 (dk_at dksX11_codesTell_1 3 rfl rfl)
theorem dX11_codesTell_28 : decode cX11_codesTell 28 = .ok (.if_icmp .ge 114, 3) := dk_162 0 114 (dk_at dksX11_codesTell_1 4 rfl rfl)
theorem dX11_codesTell_31 : decode cX11_codesTell 31 = .ok (.aload_n 0, 1) := dk_42 (dk_at dksX11_codesTell_1 7 rfl rfl)
theorem dX11_codesTell_32 : decode cX11_codesTell 32 = .ok (.getfield 108, 3) := dk_180 0 108 (dk_at dksX11_codesTell_1 8 rfl rfl)
theorem dX11_codesTell_35 : decode cX11_codesTell 35 = .ok (.sipush 1600, 3) := dk_17 6 64 (dk_at dksX11_codesTell_1 11 rfl rfl)
theorem dX11_codesTell_38 : decode cX11_codesTell 38 = .ok (.iload_n 2, 1) := dk_28 (dk_at dksX11_codesTell_1 14 rfl rfl)
theorem dX11_codesTell_39 : decode cX11_codesTell 39 = .ok (.iadd, 1) := dk_96 (dk_at dksX11_codesTell_1 15 rfl rfl)
theorem dX11_codesTell_40 : decode cX11_codesTell 40 = .ok (.iaload, 1) := dk_46 (dk_at dksX11_codesTell_1 16 rfl rfl)
theorem dX11_codesTell_41 : decode cX11_codesTell 41 = .ok (.istore_n 3, 1) := dk_62 (dk_at dksX11_codesTell_1 17 rfl rfl)
theorem dX11_codesTell_42 : decode cX11_codesTell 42 = .ok (.iload_n 3, 1) := dk_29 (dk_at dksX11_codesTell_1 18 rfl rfl)
theorem dX11_codesTell_43 : decode cX11_codesTell 43 = .ok (.sipush 1000, 3) := dk_17 3 232 (dk_at dksX11_codesTell_1 19 rfl rfl)
theorem dX11_codesTell_46 : decode cX11_codesTell 46 = .ok (.if_icmp .lt 16, 3) := dk_161 0 16 (dk_at dksX11_codesTell_2 0 rfl rfl)
theorem dX11_codesTell_49 : decode cX11_codesTell 49 = .ok (.aload_n 0, 1) := dk_42 (dk_at dksX11_codesTell_2 3 rfl rfl)
theorem dX11_codesTell_50 : decode cX11_codesTell 50 = .ok (.iload_n 3, 1) := dk_29 (dk_at dksX11_codesTell_2 4 rfl rfl)
theorem dX11_codesTell_51 : decode cX11_codesTell 51 = .ok (.sipush 1000, 3) := dk_17 3 232 (dk_at dksX11_codesTell_2 5 rfl rfl)
theorem dX11_codesTell_54 : decode cX11_codesTell 54 = .ok (.isub, 1) := dk_100 (dk_at dksX11_codesTell_2 8 rfl rfl)
theorem dX11_codesTell_55 : decode cX11_codesTell 55 = .ok (.i2l, 1) := dk_133 (dk_at dksX11_codesTell_2 9 rfl rfl)
theorem dX11_codesTell_56 : decode cX11_codesTell 56 = .ok (.invokevirtual 369, 3) := dk_182 1 113 (dk_at dksX11_codesTell_2 10 rfl rfl)
theorem dX11_codesTell_59 : decode cX11_codesTell 59 = .ok (.goto 77, 3) := dk_167 0 77 (dk_at dksX11_codesTell_2 13 rfl rfl)
theorem dX11_codesTell_62 : decode cX11_codesTell 62 = .ok (.iload_n 3, 1) := dk_29 (dk_at dksX11_codesTell_2 16 rfl rfl)
theorem dX11_codesTell_63 : decode cX11_codesTell 63 = .ok (.bipush 40, 2) := dk_16 40 (dk_at dksX11_codesTell_2 17 rfl rfl)
theorem dX11_codesTell_65 : decode cX11_codesTell 65 = .ok (.if_icmp .lt 19, 3) := dk_161 0 19 (dk_at dksX11_codesTell_2 19 rfl rfl)
theorem dX11_codesTell_68 : decode cX11_codesTell 68 = .ok (.aload_n 0, 1) := dk_42 (dk_at dksX11_codesTell_2 22 rfl rfl)
theorem dX11_codesTell_69 : decode cX11_codesTell 69 = .ok (.aload_n 0, 1) := dk_42 (dk_at dksX11_codesTell_2 23 rfl rfl)
theorem dX11_codesTell_70 : decode cX11_codesTell 70 = .ok (.iload_n 3, 1) := dk_29 (dk_at dksX11_codesTell_3 0 rfl rfl)
theorem dX11_codesTell_71 : decode cX11_codesTell 71 = .ok (.bipush 40, 2) := dk_16 40 (dk_at dksX11_codesTell_3 1 rfl rfl)
theorem dX11_codesTell_73 : decode cX11_codesTell 73 = .ok (.isub, 1) := dk_100 (dk_at dksX11_codesTell_3 3 rfl rfl)
theorem dX11_codesTell_74 : decode cX11_codesTell 74 = .ok (.iconst 0, 1) := dk_3 (dk_at dksX11_codesTell_3 4 rfl rfl)
theorem dX11_codesTell_75 : decode cX11_codesTell 75 = .ok (.invokevirtual 373, 3) := dk_182 1 117 (dk_at dksX11_codesTell_3 5 rfl rfl)
theorem dX11_codesTell_78 : decode cX11_codesTell 78 = .ok (.invokevirtual 369, 3) := dk_182 1 113 (dk_at dksX11_codesTell_3 8 rfl rfl)
theorem dX11_codesTell_81 : decode cX11_codesTell 81 = .ok (.goto 55, 3) := dk_167 0 55 (dk_at dksX11_codesTell_3 11 rfl rfl)
theorem dX11_codesTell_84 : decode cX11_codesTell 84 = .ok (.iload_n 3, 1) := dk_29 (dk_at dksX11_codesTell_3 14 rfl rfl)
theorem dX11_codesTell_85 : decode cX11_codesTell 85 = .ok (.bipush 13, 2) := dk_16 13 (dk_at dksX11_codesTell_3 15 rfl rfl)
theorem dX11_codesTell_87 : decode cX11_codesTell 87 = .ok (.if_icmp .ne 11, 3) := dk_160 0 11 (dk_at dksX11_codesTell_3 17 rfl rfl)
theorem dX11_codesTell_90 : decode cX11_codesTell 90 = .ok (.aload_n 0, 1) := dk_42 (dk_at dksX11_codesTell_3 20 rfl rfl)
theorem dX11_codesTell_91 : decode cX11_codesTell 91 = .ok (.lconst 1, 1) := dk_10 (dk_at dksX11_codesTell_3 21 rfl rfl)
theorem dX11_codesTell_92 : decode cX11_codesTell 92 = .ok (.invokevirtual 369, 3) := dk_182 1 113 (dk_at dksX11_codesTell_4 0 rfl rfl)
theorem dX11_codesTell_95 : decode cX11_codesTell 95 = .ok (.goto 41, 3) := dk_167 0 41 (dk_at dksX11_codesTell_4 3 rfl rfl)
theorem dX11_codesTell_98 : decode cX11_codesTell 98 = .ok (.iload_n 3, 1) := dk_29 (dk_at dksX11_codesTell_4 6 rfl rfl)
theorem dX11_codesTell_99 : decode cX11_codesTell 99 = .ok (.bipush 12, 2) := dk_16 12 (dk_at dksX11_codesTell_4 7 rfl rfl)
theorem dX11_codesTell_101 : decode cX11_codesTell 101 = .ok (.if_icmp .ne 30, 3) := dk_160 0 30 (dk_at dksX11_codesTell_4 9 rfl rfl)
theorem dX11_codesTell_104 : decode cX11_codesTell 104 = .ok (.aload_n 0, 1) := dk_42 (dk_at dksX11_codesTell_4 12 rfl rfl)
theorem dX11_codesTell_105 : decode cX11_codesTell 105 = .ok (.getfield 222, 3) := dk_180 0 222 (dk_at dksX11_codesTell_4 13 rfl rfl)
theorem dX11_codesTell_108 : decode cX11_codesTell 108 = .ok (.aload_n 0, 1) := dk_42 (dk_at dksX11_codesTell_4 16 rfl rfl)
theorem dX11_codesTell_109 : decode cX11_codesTell 109 = .ok (.getfield 366, 3) := dk_180 1 110 (dk_at dksX11_codesTell_4 17 rfl rfl)
theorem dX11_codesTell_112 : decode cX11_codesTell 112 = .ok (.iconst 1, 1) := dk_4 (dk_at dksX11_codesTell_4 20 rfl rfl)
theorem dX11_codesTell_113 : decode cX11_codesTell 113 = .ok (.isub, 1) := dk_100 (dk_at dksX11_codesTell_4 21 rfl rfl)
theorem dX11_codesTell_114 : decode cX11_codesTell 114 = .ok (.lconst 1, 1) := dk_10 (dk_at dksX11_codesTell_4 22 rfl rfl)
theorem dX11_codesTell_115 : decode cX11_codesTell 115 = .ok (.aload_n 0, 1) := dk_42 (dk_at dksX11_codesTell_4 23 rfl rfl)
theorem dX11_codesTell_116 : decode cX11_codesTell 116 = .ok (.getfield 222, 3) := dk_180 0 222 (dk_at dksX11_codesTell_5 0 rfl rfl)
theorem dX11_codesTell_119 : decode cX11_codesTell 119 = .ok (.aload_n 0, 1) := dk_42 (dk_at dksX11_codesTell_5 3 rfl rfl)
theorem dX11_codesTell_120 : decode cX11_codesTell 120 = .ok (.getfield 366, 3) := dk_180 1 110 (dk_at dksX11_codesTell_5 4 rfl rfl)
theorem dX11_codesTell_123 : decode cX11_codesTell 123 = .ok (.iconst 1, 1) := dk_4 (dk_at dksX11_codesTell_5 7 rfl rfl)
theorem dX11_codesTell_124 : decode cX11_codesTell 124 = .ok (.isub, 1) := dk_100 (dk_at dksX11_codesTell_5 8 rfl rfl)
theorem dX11_codesTell_125 : decode cX11_codesTell 125 = .ok (.laload, 1) := dk_47 (dk_at dksX11_codesTell_5 9 rfl rfl)
theorem dX11_codesTell_126 : decode cX11_codesTell 126 = .ok (.lsub, 1) := dk_101 (dk_at dksX11_codesTell_5 10 rfl rfl)
theorem dX11_codesTell_127 : decode cX11_codesTell 127 = .ok (.lastore, 1) := dk_80 (dk_at dksX11_codesTell_5 11 rfl rfl)
theorem dX11_codesTell_128 : decode cX11_codesTell 128 = .ok (.goto 8, 3) := dk_167 0 8 (dk_at dksX11_codesTell_5 12 rfl rfl)
theorem dX11_codesTell_131 : decode cX11_codesTell 131 = .ok (.aload_n 0, 1) := dk_42 (dk_at dksX11_codesTell_5 15 rfl rfl)
theorem dX11_codesTell_132 : decode cX11_codesTell 132 = .ok (.iload_n 3, 1) := dk_29 (dk_at dksX11_codesTell_5 16 rfl rfl)
theorem dX11_codesTell_133 : decode cX11_codesTell 133 = .ok (.invokevirtual 377, 3) := dk_182 1 121 (dk_at dksX11_codesTell_5 17 rfl rfl)
theorem dX11_codesTell_136 : decode cX11_codesTell 136 = .ok (.iinc 2 1, 3) := dk_132 2 1 (dk_at dksX11_codesTell_5 20 rfl rfl)
theorem dX11_codesTell_139 : decode cX11_codesTell 139 = .ok (.goto (-120), 3) := dk_167 255 136 (dk_at dksX11_codesTell_6 0 rfl rfl)
theorem dX11_codesTell_142 : decode cX11_codesTell 142 = .ok (.aload_n 0, 1) := dk_42 (dk_at dksX11_codesTell_6 3 rfl rfl)
theorem dX11_codesTell_143 : decode cX11_codesTell 143 = .ok (.getfield 222, 3) := dk_180 0 222 (dk_at dksX11_codesTell_6 4 rfl rfl)
theorem dX11_codesTell_146 : decode cX11_codesTell 146 = .ok (.iconst 0, 1) := dk_3 (dk_at dksX11_codesTell_6 7 rfl rfl)
theorem dX11_codesTell_147 : decode cX11_codesTell 147 = .ok (.laload, 1) := dk_47 (dk_at dksX11_codesTell_6 8 rfl rfl)
theorem dX11_codesTell_148 : decode cX11_codesTell 148 = .ok (.lreturn, 1) := dk_173 (dk_at dksX11_codesTell_6 9 rfl rfl)
abbrev cX11_qPuts : ByteArray := prog_26_method_144_code
def yX11_qPuts : MethodName := ⟨RX11, "qPuts", "(J)V"⟩
def dkwX11_qPuts_0 : List UInt8 := [42, 180, 0, 222, 42, 180, 1, 110, 31, 80, 42, 89, 180, 1, 110, 4, 96, 181, 1, 110, 177]
abbrev dktX11_qPuts_0 : List UInt8 := dkwX11_qPuts_0 ++ []
theorem dksX11_qPuts_0 : cX11_qPuts.data.toList.drop 0 = dktX11_qPuts_0 := by decide +kernel
theorem dX11_qPuts_0 : decode cX11_qPuts 0 = .ok (.aload_n 0, 1) := dk_42 (dk_at dksX11_qPuts_0 0 rfl rfl)
theorem dX11_qPuts_1 : decode cX11_qPuts 1 = .ok (.getfield 222, 3) := dk_180 0 222 (dk_at dksX11_qPuts_0 1 rfl rfl)
theorem dX11_qPuts_4 : decode cX11_qPuts 4 = .ok (.aload_n 0, 1) := dk_42 (dk_at dksX11_qPuts_0 4 rfl rfl)
theorem dX11_qPuts_5 : decode cX11_qPuts 5 = .ok (.getfield 366, 3) := dk_180 1 110 (dk_at dksX11_qPuts_0 5 rfl rfl)
theorem dX11_qPuts_8 : decode cX11_qPuts 8 = .ok (.lload_n 1, 1) := dk_31 (dk_at dksX11_qPuts_0 8 rfl rfl)
theorem dX11_qPuts_9 : decode cX11_qPuts 9 = .ok (.lastore, 1) := dk_80 (dk_at dksX11_qPuts_0 9 rfl rfl)
theorem dX11_qPuts_10 : decode cX11_qPuts 10 = .ok (.aload_n 0, 1) := dk_42 (dk_at dksX11_qPuts_0 10 rfl rfl)
theorem dX11_qPuts_11 : decode cX11_qPuts 11 = .ok (.dup, 1) := dk_89 (dk_at dksX11_qPuts_0 11 rfl rfl)
theorem dX11_qPuts_12 : decode cX11_qPuts 12 = .ok (.getfield 366, 3) := dk_180 1 110 (dk_at dksX11_qPuts_0 12 rfl rfl)
theorem dX11_qPuts_15 : decode cX11_qPuts 15 = .ok (.iconst 1, 1) := dk_4 (dk_at dksX11_qPuts_0 15 rfl rfl)
theorem dX11_qPuts_16 : decode cX11_qPuts 16 = .ok (.iadd, 1) := dk_96 (dk_at dksX11_qPuts_0 16 rfl rfl)
theorem dX11_qPuts_17 : decode cX11_qPuts 17 = .ok (.putfield 366, 3) := dk_181 1 110 (dk_at dksX11_qPuts_0 17 rfl rfl)
theorem dX11_qPuts_20 : decode cX11_qPuts 20 = .ok (.return_, 1) := dk_177 (dk_at dksX11_qPuts_0 20 rfl rfl)
abbrev cX11_qPartOf : ByteArray := prog_26_method_146_code
def yX11_qPartOf : MethodName := ⟨RX11, "qPartOf", "(II)J"⟩
def dkwX11_qPartOf_7 : List UInt8 := [180, 2, 210, 182, 2, 61, 133, 173]
abbrev dktX11_qPartOf_7 : List UInt8 := dkwX11_qPartOf_7 ++ []
def dkwX11_qPartOf_6 : List UInt8 := [182, 2, 23, 153, 0, 15, 42, 42, 180, 2, 210, 182, 2, 29, 133, 167, 0, 4, 9, 173, 42, 42]
abbrev dktX11_qPartOf_6 : List UInt8 := dkwX11_qPartOf_6 ++ dktX11_qPartOf_7
def dkwX11_qPartOf_5 : List UInt8 := [153, 0, 15, 42, 42, 180, 2, 210, 182, 1, 241, 133, 167, 0, 4, 9, 173, 42, 42, 180, 2, 210]
abbrev dktX11_qPartOf_5 : List UInt8 := dkwX11_qPartOf_5 ++ dktX11_qPartOf_6
def dkwX11_qPartOf_4 : List UInt8 := [42, 180, 0, 111, 16, 12, 46, 133, 173, 42, 180, 2, 210, 133, 173, 42, 42, 180, 2, 210, 182, 2, 23]
abbrev dktX11_qPartOf_4 : List UInt8 := dkwX11_qPartOf_4 ++ dktX11_qPartOf_5
def dkwX11_qPartOf_3 : List UInt8 := [3, 46, 42, 42, 180, 0, 111, 4, 46, 42, 180, 0, 111, 16, 11, 46, 100, 6, 182, 1, 107, 100, 133, 173]
abbrev dktX11_qPartOf_3 : List UInt8 := dkwX11_qPartOf_3 ++ dktX11_qPartOf_4
def dkwX11_qPartOf_2 : List UInt8 := [42, 180, 0, 111, 3, 46, 133, 173, 42, 180, 1, 180, 133, 173, 42, 180, 1, 183, 133, 173, 42, 180, 0, 111]
abbrev dktX11_qPartOf_2 : List UInt8 := dkwX11_qPartOf_2 ++ dktX11_qPartOf_3
def dkwX11_qPartOf_1 : List UInt8 := [170, 0, 0, 0, 0, 0, 160, 0, 0, 0, 0, 0, 0, 0, 7, 0, 0, 0, 47, 0, 0, 0, 55, 0, 0, 0, 61, 0, 0, 0, 67, 0, 0, 0, 95, 0, 0, 0, 104, 0, 0, 0, 110, 0, 0, 0, 135]
abbrev dktX11_qPartOf_1 : List UInt8 := dkwX11_qPartOf_1 ++ dktX11_qPartOf_2
def dkwX11_qPartOf_0 : List UInt8 := [27]
abbrev dktX11_qPartOf_0 : List UInt8 := dkwX11_qPartOf_0 ++ dktX11_qPartOf_1
theorem dksX11_qPartOf_0 : cX11_qPartOf.data.toList.drop 0 = dktX11_qPartOf_0 := by decide +kernel
theorem dksX11_qPartOf_1 : cX11_qPartOf.data.toList.drop 1 = dktX11_qPartOf_1 := dk_seg dksX11_qPartOf_0 1 rfl rfl
theorem dksX11_qPartOf_2 : cX11_qPartOf.data.toList.drop 48 = dktX11_qPartOf_2 := dk_seg dksX11_qPartOf_1 47 rfl rfl
theorem dksX11_qPartOf_3 : cX11_qPartOf.data.toList.drop 72 = dktX11_qPartOf_3 := dk_seg dksX11_qPartOf_2 24 rfl rfl
theorem dksX11_qPartOf_4 : cX11_qPartOf.data.toList.drop 96 = dktX11_qPartOf_4 := dk_seg dksX11_qPartOf_3 24 rfl rfl
theorem dksX11_qPartOf_5 : cX11_qPartOf.data.toList.drop 119 = dktX11_qPartOf_5 := dk_seg dksX11_qPartOf_4 23 rfl rfl
theorem dksX11_qPartOf_6 : cX11_qPartOf.data.toList.drop 141 = dktX11_qPartOf_6 := dk_seg dksX11_qPartOf_5 22 rfl rfl
theorem dksX11_qPartOf_7 : cX11_qPartOf.data.toList.drop 163 = dktX11_qPartOf_7 := dk_seg dksX11_qPartOf_6 22 rfl rfl
theorem dX11_qPartOf_0 : decode cX11_qPartOf 0 = .ok (.iload_n 1, 1) := dk_27 (dk_at dksX11_qPartOf_0 0 rfl rfl)
theorem dX11_qPartOf_1 : decode cX11_qPartOf 1 = .ok (.tableswitch 160 0 7 #[47, 55, 61, 67, 95, 104, 110, 135], 47) := by decide +kernel
theorem dX11_qPartOf_48 : decode cX11_qPartOf 48 = .ok (.aload_n 0, 1) := dk_42 (dk_at dksX11_qPartOf_2 0 rfl rfl)
theorem dX11_qPartOf_49 : decode cX11_qPartOf 49 = .ok (.getfield 111, 3) := dk_180 0 111 (dk_at dksX11_qPartOf_2 1 rfl rfl)
theorem dX11_qPartOf_52 : decode cX11_qPartOf 52 = .ok (.iconst 0, 1) := dk_3 (dk_at dksX11_qPartOf_2 4 rfl rfl)
theorem dX11_qPartOf_53 : decode cX11_qPartOf 53 = .ok (.iaload, 1) := dk_46 (dk_at dksX11_qPartOf_2 5 rfl rfl)
theorem dX11_qPartOf_54 : decode cX11_qPartOf 54 = .ok (.i2l, 1) := dk_133 (dk_at dksX11_qPartOf_2 6 rfl rfl)
theorem dX11_qPartOf_55 : decode cX11_qPartOf 55 = .ok (.lreturn, 1) := dk_173 (dk_at dksX11_qPartOf_2 7 rfl rfl)
theorem dX11_qPartOf_56 : decode cX11_qPartOf 56 = .ok (.aload_n 0, 1) := dk_42 (dk_at dksX11_qPartOf_2 8 rfl rfl)
theorem dX11_qPartOf_57 : decode cX11_qPartOf 57 = .ok (.getfield 436, 3) := dk_180 1 180 (dk_at dksX11_qPartOf_2 9 rfl rfl)
theorem dX11_qPartOf_60 : decode cX11_qPartOf 60 = .ok (.i2l, 1) := dk_133 (dk_at dksX11_qPartOf_2 12 rfl rfl)
theorem dX11_qPartOf_61 : decode cX11_qPartOf 61 = .ok (.lreturn, 1) := dk_173 (dk_at dksX11_qPartOf_2 13 rfl rfl)
theorem dX11_qPartOf_62 : decode cX11_qPartOf 62 = .ok (.aload_n 0, 1) := dk_42 (dk_at dksX11_qPartOf_2 14 rfl rfl)
theorem dX11_qPartOf_63 : decode cX11_qPartOf 63 = .ok (.getfield 439, 3) := dk_180 1 183 (dk_at dksX11_qPartOf_2 15 rfl rfl)
theorem dX11_qPartOf_66 : decode cX11_qPartOf 66 = .ok (.i2l, 1) := dk_133 (dk_at dksX11_qPartOf_2 18 rfl rfl)
theorem dX11_qPartOf_67 : decode cX11_qPartOf 67 = .ok (.lreturn, 1) := dk_173 (dk_at dksX11_qPartOf_2 19 rfl rfl)
theorem dX11_qPartOf_68 : decode cX11_qPartOf 68 = .ok (.aload_n 0, 1) := dk_42 (dk_at dksX11_qPartOf_2 20 rfl rfl)
theorem dX11_qPartOf_69 : decode cX11_qPartOf 69 = .ok (.getfield 111, 3) := dk_180 0 111 (dk_at dksX11_qPartOf_2 21 rfl rfl)
theorem dX11_qPartOf_72 : decode cX11_qPartOf 72 = .ok (.iconst 0, 1) := dk_3 (dk_at dksX11_qPartOf_3 0 rfl rfl)
theorem dX11_qPartOf_73 : decode cX11_qPartOf 73 = .ok (.iaload, 1) := dk_46 (dk_at dksX11_qPartOf_3 1 rfl rfl)
theorem dX11_qPartOf_74 : decode cX11_qPartOf 74 = .ok (.aload_n 0, 1) := dk_42 (dk_at dksX11_qPartOf_3 2 rfl rfl)
theorem dX11_qPartOf_75 : decode cX11_qPartOf 75 = .ok (.aload_n 0, 1) := dk_42 (dk_at dksX11_qPartOf_3 3 rfl rfl)
theorem dX11_qPartOf_76 : decode cX11_qPartOf 76 = .ok (.getfield 111, 3) := dk_180 0 111 (dk_at dksX11_qPartOf_3 4 rfl rfl)
theorem dX11_qPartOf_79 : decode cX11_qPartOf 79 = .ok (.iconst 1, 1) := dk_4 (dk_at dksX11_qPartOf_3 7 rfl rfl)
theorem dX11_qPartOf_80 : decode cX11_qPartOf 80 = .ok (.iaload, 1) := dk_46 (dk_at dksX11_qPartOf_3 8 rfl rfl)
theorem dX11_qPartOf_81 : decode cX11_qPartOf 81 = .ok (.aload_n 0, 1) := dk_42 (dk_at dksX11_qPartOf_3 9 rfl rfl)
theorem dX11_qPartOf_82 : decode cX11_qPartOf 82 = .ok (.getfield 111, 3) := dk_180 0 111 (dk_at dksX11_qPartOf_3 10 rfl rfl)
theorem dX11_qPartOf_85 : decode cX11_qPartOf 85 = .ok (.bipush 11, 2) := dk_16 11 (dk_at dksX11_qPartOf_3 13 rfl rfl)
theorem dX11_qPartOf_87 : decode cX11_qPartOf 87 = .ok (.iaload, 1) := dk_46 (dk_at dksX11_qPartOf_3 15 rfl rfl)
theorem dX11_qPartOf_88 : decode cX11_qPartOf 88 = .ok (.isub, 1) := dk_100 (dk_at dksX11_qPartOf_3 16 rfl rfl)
theorem dX11_qPartOf_89 : decode cX11_qPartOf 89 = .ok (.iconst 3, 1) := dk_6 (dk_at dksX11_qPartOf_3 17 rfl rfl)
theorem dX11_qPartOf_90 : decode cX11_qPartOf 90 = .ok (.invokevirtual 363, 3) := dk_182 1 107 (dk_at dksX11_qPartOf_3 18 rfl rfl)
theorem dX11_qPartOf_93 : decode cX11_qPartOf 93 = .ok (.isub, 1) := dk_100 (dk_at dksX11_qPartOf_3 21 rfl rfl)
theorem dX11_qPartOf_94 : decode cX11_qPartOf 94 = .ok (.i2l, 1) := dk_133 (dk_at dksX11_qPartOf_3 22 rfl rfl)
theorem dX11_qPartOf_95 : decode cX11_qPartOf 95 = .ok (.lreturn, 1) := dk_173 (dk_at dksX11_qPartOf_3 23 rfl rfl)
theorem dX11_qPartOf_96 : decode cX11_qPartOf 96 = .ok (.aload_n 0, 1) := dk_42 (dk_at dksX11_qPartOf_4 0 rfl rfl)
theorem dX11_qPartOf_97 : decode cX11_qPartOf 97 = .ok (.getfield 111, 3) := dk_180 0 111 (dk_at dksX11_qPartOf_4 1 rfl rfl)
theorem dX11_qPartOf_100 : decode cX11_qPartOf 100 = .ok (.bipush 12, 2) := dk_16 12 (dk_at dksX11_qPartOf_4 4 rfl rfl)
theorem dX11_qPartOf_102 : decode cX11_qPartOf 102 = .ok (.iaload, 1) := dk_46 (dk_at dksX11_qPartOf_4 6 rfl rfl)
theorem dX11_qPartOf_103 : decode cX11_qPartOf 103 = .ok (.i2l, 1) := dk_133 (dk_at dksX11_qPartOf_4 7 rfl rfl)
theorem dX11_qPartOf_104 : decode cX11_qPartOf 104 = .ok (.lreturn, 1) := dk_173 (dk_at dksX11_qPartOf_4 8 rfl rfl)
theorem dX11_qPartOf_105 : decode cX11_qPartOf 105 = .ok (.aload_n 0, 1) := dk_42 (dk_at dksX11_qPartOf_4 9 rfl rfl)
theorem dX11_qPartOf_106 : decode cX11_qPartOf 106 = .ok (.getfield 722, 3) := dk_180 2 210 (dk_at dksX11_qPartOf_4 10 rfl rfl)
theorem dX11_qPartOf_109 : decode cX11_qPartOf 109 = .ok (.i2l, 1) := dk_133 (dk_at dksX11_qPartOf_4 13 rfl rfl)
theorem dX11_qPartOf_110 : decode cX11_qPartOf 110 = .ok (.lreturn, 1) := dk_173 (dk_at dksX11_qPartOf_4 14 rfl rfl)
theorem dX11_qPartOf_111 : decode cX11_qPartOf 111 = .ok (.aload_n 0, 1) := dk_42 (dk_at dksX11_qPartOf_4 15 rfl rfl)
theorem dX11_qPartOf_112 : decode cX11_qPartOf 112 = .ok (.aload_n 0, 1) := dk_42 (dk_at dksX11_qPartOf_4 16 rfl rfl)
theorem dX11_qPartOf_113 : decode cX11_qPartOf 113 = .ok (.getfield 722, 3) := dk_180 2 210 (dk_at dksX11_qPartOf_4 17 rfl rfl)
theorem dX11_qPartOf_116 : decode cX11_qPartOf 116 = .ok (.invokevirtual 535, 3) := dk_182 2 23 (dk_at dksX11_qPartOf_4 20 rfl rfl)
theorem dX11_qPartOf_119 : decode cX11_qPartOf 119 = .ok (.ifCond .eq 15, 3) := dk_153 0 15 (dk_at dksX11_qPartOf_5 0 rfl rfl)
theorem dX11_qPartOf_122 : decode cX11_qPartOf 122 = .ok (.aload_n 0, 1) := dk_42 (dk_at dksX11_qPartOf_5 3 rfl rfl)
theorem dX11_qPartOf_123 : decode cX11_qPartOf 123 = .ok (.aload_n 0, 1) := dk_42 (dk_at dksX11_qPartOf_5 4 rfl rfl)
theorem dX11_qPartOf_124 : decode cX11_qPartOf 124 = .ok (.getfield 722, 3) := dk_180 2 210 (dk_at dksX11_qPartOf_5 5 rfl rfl)
theorem dX11_qPartOf_127 : decode cX11_qPartOf 127 = .ok (.invokevirtual 497, 3) := dk_182 1 241 (dk_at dksX11_qPartOf_5 8 rfl rfl)
theorem dX11_qPartOf_130 : decode cX11_qPartOf 130 = .ok (.i2l, 1) := dk_133 (dk_at dksX11_qPartOf_5 11 rfl rfl)
theorem dX11_qPartOf_131 : decode cX11_qPartOf 131 = .ok (.goto 4, 3) := dk_167 0 4 (dk_at dksX11_qPartOf_5 12 rfl rfl)
theorem dX11_qPartOf_134 : decode cX11_qPartOf 134 = .ok (.lconst 0, 1) := dk_9 (dk_at dksX11_qPartOf_5 15 rfl rfl)
theorem dX11_qPartOf_135 : decode cX11_qPartOf 135 = .ok (.lreturn, 1) := dk_173 (dk_at dksX11_qPartOf_5 16 rfl rfl)
theorem dX11_qPartOf_136 : decode cX11_qPartOf 136 = .ok (.aload_n 0, 1) := dk_42 (dk_at dksX11_qPartOf_5 17 rfl rfl)
theorem dX11_qPartOf_137 : decode cX11_qPartOf 137 = .ok (.aload_n 0, 1) := dk_42 (dk_at dksX11_qPartOf_5 18 rfl rfl)
theorem dX11_qPartOf_138 : decode cX11_qPartOf 138 = .ok (.getfield 722, 3) := dk_180 2 210 (dk_at dksX11_qPartOf_5 19 rfl rfl)
theorem dX11_qPartOf_141 : decode cX11_qPartOf 141 = .ok (.invokevirtual 535, 3) := dk_182 2 23 (dk_at dksX11_qPartOf_6 0 rfl rfl)
theorem dX11_qPartOf_144 : decode cX11_qPartOf 144 = .ok (.ifCond .eq 15, 3) := dk_153 0 15 (dk_at dksX11_qPartOf_6 3 rfl rfl)
theorem dX11_qPartOf_147 : decode cX11_qPartOf 147 = .ok (.aload_n 0, 1) := dk_42 (dk_at dksX11_qPartOf_6 6 rfl rfl)
theorem dX11_qPartOf_148 : decode cX11_qPartOf 148 = .ok (.aload_n 0, 1) := dk_42 (dk_at dksX11_qPartOf_6 7 rfl rfl)
theorem dX11_qPartOf_149 : decode cX11_qPartOf 149 = .ok (.getfield 722, 3) := dk_180 2 210 (dk_at dksX11_qPartOf_6 8 rfl rfl)
theorem dX11_qPartOf_152 : decode cX11_qPartOf 152 = .ok (.invokevirtual 541, 3) := dk_182 2 29 (dk_at dksX11_qPartOf_6 11 rfl rfl)
theorem dX11_qPartOf_155 : decode cX11_qPartOf 155 = .ok (.i2l, 1) := dk_133 (dk_at dksX11_qPartOf_6 14 rfl rfl)
theorem dX11_qPartOf_156 : decode cX11_qPartOf 156 = .ok (.goto 4, 3) := dk_167 0 4 (dk_at dksX11_qPartOf_6 15 rfl rfl)
theorem dX11_qPartOf_159 : decode cX11_qPartOf 159 = .ok (.lconst 0, 1) := dk_9 (dk_at dksX11_qPartOf_6 18 rfl rfl)
theorem dX11_qPartOf_160 : decode cX11_qPartOf 160 = .ok (.lreturn, 1) := dk_173 (dk_at dksX11_qPartOf_6 19 rfl rfl)
theorem dX11_qPartOf_161 : decode cX11_qPartOf 161 = .ok (.aload_n 0, 1) := dk_42 (dk_at dksX11_qPartOf_6 20 rfl rfl)
theorem dX11_qPartOf_162 : decode cX11_qPartOf 162 = .ok (.aload_n 0, 1) := dk_42 (dk_at dksX11_qPartOf_6 21 rfl rfl)
theorem dX11_qPartOf_163 : decode cX11_qPartOf 163 = .ok (.getfield 722, 3) := dk_180 2 210 (dk_at dksX11_qPartOf_7 0 rfl rfl)
theorem dX11_qPartOf_166 : decode cX11_qPartOf 166 = .ok (.invokevirtual 573, 3) := dk_182 2 61 (dk_at dksX11_qPartOf_7 3 rfl rfl)
theorem dX11_qPartOf_169 : decode cX11_qPartOf 169 = .ok (.i2l, 1) := dk_133 (dk_at dksX11_qPartOf_7 6 rfl rfl)
theorem dX11_qPartOf_170 : decode cX11_qPartOf 170 = .ok (.lreturn, 1) := dk_173 (dk_at dksX11_qPartOf_7 7 rfl rfl)
abbrev cX11_qJoins : ByteArray := prog_26_method_145_code
def yX11_qJoins : MethodName := ⟨RX11, "qJoins", "(I)V"⟩
def dkwX11_qJoins_10 : List UInt8 := [167, 0, 21, 42, 22, 4, 32, 97, 9, 148, 158, 0, 7, 10, 167, 0, 4, 9, 182, 1, 113, 177]
abbrev dktX11_qJoins_10 : List UInt8 := dkwX11_qJoins_10 ++ []
def dkwX11_qJoins_9 : List UInt8 := [154, 0, 7, 10, 167, 0, 4, 9, 182, 1, 113, 167, 0, 32, 42, 22, 4, 32, 105, 182, 1, 113]
abbrev dktX11_qJoins_9 : List UInt8 := dkwX11_qJoins_9 ++ dktX11_qJoins_10
def dkwX11_qJoins_8 : List UInt8 := [22, 4, 32, 148, 158, 0, 7, 10, 167, 0, 4, 9, 182, 1, 113, 167, 0, 51, 42, 22, 4, 32, 148]
abbrev dktX11_qJoins_8 : List UInt8 := dkwX11_qJoins_8 ++ dktX11_qJoins_9
def dkwX11_qJoins_7 : List UInt8 := [167, 0, 89, 42, 22, 4, 32, 148, 156, 0, 7, 10, 167, 0, 4, 9, 182, 1, 113, 167, 0, 70, 42]
abbrev dktX11_qJoins_7 : List UInt8 := dkwX11_qJoins_7 ++ dktX11_qJoins_8
def dkwX11_qJoins_6 : List UInt8 := [182, 1, 113, 167, 0, 109, 42, 22, 4, 32, 148, 158, 0, 8, 22, 4, 167, 0, 4, 32, 182, 1, 113]
abbrev dktX11_qJoins_6 : List UInt8 := dkwX11_qJoins_6 ++ dktX11_qJoins_7
def dkwX11_qJoins_5 : List UInt8 := [184, 2, 206, 182, 1, 113, 167, 0, 129, 42, 22, 4, 32, 148, 156, 0, 8, 22, 4, 167, 0, 4, 32]
abbrev dktX11_qJoins_5 : List UInt8 := dkwX11_qJoins_5 ++ dktX11_qJoins_6
def dkwX11_qJoins_4 : List UInt8 := [182, 1, 113, 167, 0, 156, 42, 22, 4, 32, 105, 184, 2, 202, 182, 1, 113, 167, 0, 142, 42, 22, 4, 32]
abbrev dktX11_qJoins_4 : List UInt8 := dkwX11_qJoins_4 ++ dktX11_qJoins_5
def dkwX11_qJoins_3 : List UInt8 := [42, 22, 4, 32, 97, 184, 2, 202, 182, 1, 113, 167, 0, 170, 42, 22, 4, 32, 101, 184, 2, 202]
abbrev dktX11_qJoins_3 : List UInt8 := dkwX11_qJoins_3 ++ dktX11_qJoins_4
def dkwX11_qJoins_2 : List UInt8 := [170, 0, 0, 0, 0, 0, 0, 219, 0, 0, 0, 1, 0, 0, 0, 10, 0, 0, 0, 56, 0, 0, 0, 70, 0, 0, 0, 84, 0, 0, 0, 98, 0, 0, 0, 111, 0, 0, 0, 131, 0, 0, 0, 151, 0, 0, 0, 170, 0, 0, 0, 189, 0, 0, 0, 208]
abbrev dktX11_qJoins_2 : List UInt8 := dkwX11_qJoins_2 ++ dktX11_qJoins_3
def dkwX11_qJoins_1 : List UInt8 := [55, 4, 42, 89, 180, 1, 110, 5, 100, 181, 1, 110, 27]
abbrev dktX11_qJoins_1 : List UInt8 := dkwX11_qJoins_1 ++ dktX11_qJoins_2
def dkwX11_qJoins_0 : List UInt8 := [42, 180, 0, 222, 42, 180, 1, 110, 4, 100, 47, 65, 42, 180, 0, 222, 42, 180, 1, 110, 5, 100, 47]
abbrev dktX11_qJoins_0 : List UInt8 := dkwX11_qJoins_0 ++ dktX11_qJoins_1
theorem dksX11_qJoins_0 : cX11_qJoins.data.toList.drop 0 = dktX11_qJoins_0 := by decide +kernel
theorem dksX11_qJoins_1 : cX11_qJoins.data.toList.drop 23 = dktX11_qJoins_1 := dk_seg dksX11_qJoins_0 23 rfl rfl
theorem dksX11_qJoins_2 : cX11_qJoins.data.toList.drop 36 = dktX11_qJoins_2 := dk_seg dksX11_qJoins_1 13 rfl rfl
theorem dksX11_qJoins_3 : cX11_qJoins.data.toList.drop 92 = dktX11_qJoins_3 := dk_seg dksX11_qJoins_2 56 rfl rfl
theorem dksX11_qJoins_4 : cX11_qJoins.data.toList.drop 114 = dktX11_qJoins_4 := dk_seg dksX11_qJoins_3 22 rfl rfl
theorem dksX11_qJoins_5 : cX11_qJoins.data.toList.drop 138 = dktX11_qJoins_5 := dk_seg dksX11_qJoins_4 24 rfl rfl
theorem dksX11_qJoins_6 : cX11_qJoins.data.toList.drop 161 = dktX11_qJoins_6 := dk_seg dksX11_qJoins_5 23 rfl rfl
theorem dksX11_qJoins_7 : cX11_qJoins.data.toList.drop 184 = dktX11_qJoins_7 := dk_seg dksX11_qJoins_6 23 rfl rfl
theorem dksX11_qJoins_8 : cX11_qJoins.data.toList.drop 207 = dktX11_qJoins_8 := dk_seg dksX11_qJoins_7 23 rfl rfl
theorem dksX11_qJoins_9 : cX11_qJoins.data.toList.drop 230 = dktX11_qJoins_9 := dk_seg dksX11_qJoins_8 23 rfl rfl
theorem dksX11_qJoins_10 : cX11_qJoins.data.toList.drop 252 = dktX11_qJoins_10 := dk_seg dksX11_qJoins_9 22 rfl rfl
theorem dX11_qJoins_0 : decode cX11_qJoins 0 = .ok (.aload_n 0, 1) := dk_42 (dk_at dksX11_qJoins_0 0 rfl rfl)
theorem dX11_qJoins_1 : decode cX11_qJoins 1 = .ok (.getfield 222, 3) := dk_180 0 222 (dk_at dksX11_qJoins_0 1 rfl rfl)
theorem dX11_qJoins_4 : decode cX11_qJoins 4 = .ok (.aload_n 0, 1) := dk_42 (dk_at dksX11_qJoins_0 4 rfl rfl)
theorem dX11_qJoins_5 : decode cX11_qJoins 5 = .ok (.getfield 366, 3) := dk_180 1 110 (dk_at dksX11_qJoins_0 5 rfl rfl)
theorem dX11_qJoins_8 : decode cX11_qJoins 8 = .ok (.iconst 1, 1) := dk_4 (dk_at dksX11_qJoins_0 8 rfl rfl)
theorem dX11_qJoins_9 : decode cX11_qJoins 9 = .ok (.isub, 1) := dk_100 (dk_at dksX11_qJoins_0 9 rfl rfl)
theorem dX11_qJoins_10 : decode cX11_qJoins 10 = .ok (.laload, 1) := dk_47 (dk_at dksX11_qJoins_0 10 rfl rfl)
theorem dX11_qJoins_11 : decode cX11_qJoins 11 = .ok (.lstore_n 2, 1) := dk_65 (dk_at dksX11_qJoins_0 11 rfl rfl)
theorem dX11_qJoins_12 : decode cX11_qJoins 12 = .ok (.aload_n 0, 1) := dk_42 (dk_at dksX11_qJoins_0 12 rfl rfl)
theorem dX11_qJoins_13 : decode cX11_qJoins 13 = .ok (.getfield 222, 3) := dk_180 0 222 (dk_at dksX11_qJoins_0 13 rfl rfl)
theorem dX11_qJoins_16 : decode cX11_qJoins 16 = .ok (.aload_n 0, 1) := dk_42 (dk_at dksX11_qJoins_0 16 rfl rfl)
theorem dX11_qJoins_17 : decode cX11_qJoins 17 = .ok (.getfield 366, 3) := dk_180 1 110 (dk_at dksX11_qJoins_0 17 rfl rfl)
theorem dX11_qJoins_20 : decode cX11_qJoins 20 = .ok (.iconst 2, 1) := dk_5 (dk_at dksX11_qJoins_0 20 rfl rfl)
theorem dX11_qJoins_21 : decode cX11_qJoins 21 = .ok (.isub, 1) := dk_100 (dk_at dksX11_qJoins_0 21 rfl rfl)
theorem dX11_qJoins_22 : decode cX11_qJoins 22 = .ok (.laload, 1) := dk_47 (dk_at dksX11_qJoins_0 22 rfl rfl)
theorem dX11_qJoins_23 : decode cX11_qJoins 23 = .ok (.lstore 4, 2) := dk_55 4 (dk_at dksX11_qJoins_1 0 rfl rfl)
theorem dX11_qJoins_25 : decode cX11_qJoins 25 = .ok (.aload_n 0, 1) := dk_42 (dk_at dksX11_qJoins_1 2 rfl rfl)
theorem dX11_qJoins_26 : decode cX11_qJoins 26 = .ok (.dup, 1) := dk_89 (dk_at dksX11_qJoins_1 3 rfl rfl)
theorem dX11_qJoins_27 : decode cX11_qJoins 27 = .ok (.getfield 366, 3) := dk_180 1 110 (dk_at dksX11_qJoins_1 4 rfl rfl)
theorem dX11_qJoins_30 : decode cX11_qJoins 30 = .ok (.iconst 2, 1) := dk_5 (dk_at dksX11_qJoins_1 7 rfl rfl)
theorem dX11_qJoins_31 : decode cX11_qJoins 31 = .ok (.isub, 1) := dk_100 (dk_at dksX11_qJoins_1 8 rfl rfl)
theorem dX11_qJoins_32 : decode cX11_qJoins 32 = .ok (.putfield 366, 3) := dk_181 1 110 (dk_at dksX11_qJoins_1 9 rfl rfl)
theorem dX11_qJoins_35 : decode cX11_qJoins 35 = .ok (.iload_n 1, 1) := dk_27 (dk_at dksX11_qJoins_1 12 rfl rfl)
theorem dX11_qJoins_36 : decode cX11_qJoins 36 = .ok (.tableswitch 219 1 10 #[56, 70, 84, 98, 111, 131, 151, 170, 189, 208], 56) := by decide +kernel
theorem dX11_qJoins_92 : decode cX11_qJoins 92 = .ok (.aload_n 0, 1) := dk_42 (dk_at dksX11_qJoins_3 0 rfl rfl)
theorem dX11_qJoins_93 : decode cX11_qJoins 93 = .ok (.lload 4, 2) := dk_22 4 (dk_at dksX11_qJoins_3 1 rfl rfl)
theorem dX11_qJoins_95 : decode cX11_qJoins 95 = .ok (.lload_n 2, 1) := dk_32 (dk_at dksX11_qJoins_3 3 rfl rfl)
theorem dX11_qJoins_96 : decode cX11_qJoins 96 = .ok (.ladd, 1) := dk_97 (dk_at dksX11_qJoins_3 4 rfl rfl)
theorem dX11_qJoins_97 : decode cX11_qJoins 97 = .ok (.invokestatic 714, 3) := dk_184 2 202 (dk_at dksX11_qJoins_3 5 rfl rfl)
theorem dX11_qJoins_100 : decode cX11_qJoins 100 = .ok (.invokevirtual 369, 3) := dk_182 1 113 (dk_at dksX11_qJoins_3 8 rfl rfl)
theorem dX11_qJoins_103 : decode cX11_qJoins 103 = .ok (.goto 170, 3) := dk_167 0 170 (dk_at dksX11_qJoins_3 11 rfl rfl)
theorem dX11_qJoins_106 : decode cX11_qJoins 106 = .ok (.aload_n 0, 1) := dk_42 (dk_at dksX11_qJoins_3 14 rfl rfl)
theorem dX11_qJoins_107 : decode cX11_qJoins 107 = .ok (.lload 4, 2) := dk_22 4 (dk_at dksX11_qJoins_3 15 rfl rfl)
theorem dX11_qJoins_109 : decode cX11_qJoins 109 = .ok (.lload_n 2, 1) := dk_32 (dk_at dksX11_qJoins_3 17 rfl rfl)
theorem dX11_qJoins_110 : decode cX11_qJoins 110 = .ok (.lsub, 1) := dk_101 (dk_at dksX11_qJoins_3 18 rfl rfl)
theorem dX11_qJoins_111 : decode cX11_qJoins 111 = .ok (.invokestatic 714, 3) := dk_184 2 202 (dk_at dksX11_qJoins_3 19 rfl rfl)
theorem dX11_qJoins_114 : decode cX11_qJoins 114 = .ok (.invokevirtual 369, 3) := dk_182 1 113 (dk_at dksX11_qJoins_4 0 rfl rfl)
theorem dX11_qJoins_117 : decode cX11_qJoins 117 = .ok (.goto 156, 3) := dk_167 0 156 (dk_at dksX11_qJoins_4 3 rfl rfl)
theorem dX11_qJoins_120 : decode cX11_qJoins 120 = .ok (.aload_n 0, 1) := dk_42 (dk_at dksX11_qJoins_4 6 rfl rfl)
theorem dX11_qJoins_121 : decode cX11_qJoins 121 = .ok (.lload 4, 2) := dk_22 4 (dk_at dksX11_qJoins_4 7 rfl rfl)
theorem dX11_qJoins_123 : decode cX11_qJoins 123 = .ok (.lload_n 2, 1) := dk_32 (dk_at dksX11_qJoins_4 9 rfl rfl)
theorem dX11_qJoins_124 : decode cX11_qJoins 124 = .ok (.lmul, 1) := dk_105 (dk_at dksX11_qJoins_4 10 rfl rfl)
theorem dX11_qJoins_125 : decode cX11_qJoins 125 = .ok (.invokestatic 714, 3) := dk_184 2 202 (dk_at dksX11_qJoins_4 11 rfl rfl)
theorem dX11_qJoins_128 : decode cX11_qJoins 128 = .ok (.invokevirtual 369, 3) := dk_182 1 113 (dk_at dksX11_qJoins_4 14 rfl rfl)
theorem dX11_qJoins_131 : decode cX11_qJoins 131 = .ok (.goto 142, 3) := dk_167 0 142 (dk_at dksX11_qJoins_4 17 rfl rfl)
theorem dX11_qJoins_134 : decode cX11_qJoins 134 = .ok (.aload_n 0, 1) := dk_42 (dk_at dksX11_qJoins_4 20 rfl rfl)
theorem dX11_qJoins_135 : decode cX11_qJoins 135 = .ok (.lload 4, 2) := dk_22 4 (dk_at dksX11_qJoins_4 21 rfl rfl)
theorem dX11_qJoins_137 : decode cX11_qJoins 137 = .ok (.lload_n 2, 1) := dk_32 (dk_at dksX11_qJoins_4 23 rfl rfl)
theorem dX11_qJoins_138 : decode cX11_qJoins 138 = .ok (.invokestatic 718, 3) := dk_184 2 206 (dk_at dksX11_qJoins_5 0 rfl rfl)
theorem dX11_qJoins_141 : decode cX11_qJoins 141 = .ok (.invokevirtual 369, 3) := dk_182 1 113 (dk_at dksX11_qJoins_5 3 rfl rfl)
theorem dX11_qJoins_144 : decode cX11_qJoins 144 = .ok (.goto 129, 3) := dk_167 0 129 (dk_at dksX11_qJoins_5 6 rfl rfl)
theorem dX11_qJoins_147 : decode cX11_qJoins 147 = .ok (.aload_n 0, 1) := dk_42 (dk_at dksX11_qJoins_5 9 rfl rfl)
theorem dX11_qJoins_148 : decode cX11_qJoins 148 = .ok (.lload 4, 2) := dk_22 4 (dk_at dksX11_qJoins_5 10 rfl rfl)
theorem dX11_qJoins_150 : decode cX11_qJoins 150 = .ok (.lload_n 2, 1) := dk_32 (dk_at dksX11_qJoins_5 12 rfl rfl)
theorem dX11_qJoins_151 : decode cX11_qJoins 151 = .ok (.lcmp, 1) := dk_148 (dk_at dksX11_qJoins_5 13 rfl rfl)
theorem dX11_qJoins_152 : decode cX11_qJoins 152 = .ok (.ifCond .ge 8, 3) := dk_156 0 8 (dk_at dksX11_qJoins_5 14 rfl rfl)
theorem dX11_qJoins_155 : decode cX11_qJoins 155 = .ok (.lload 4, 2) := dk_22 4 (dk_at dksX11_qJoins_5 17 rfl rfl)
theorem dX11_qJoins_157 : decode cX11_qJoins 157 = .ok (.goto 4, 3) := dk_167 0 4 (dk_at dksX11_qJoins_5 19 rfl rfl)
theorem dX11_qJoins_160 : decode cX11_qJoins 160 = .ok (.lload_n 2, 1) := dk_32 (dk_at dksX11_qJoins_5 22 rfl rfl)
theorem dX11_qJoins_161 : decode cX11_qJoins 161 = .ok (.invokevirtual 369, 3) := dk_182 1 113 (dk_at dksX11_qJoins_6 0 rfl rfl)
theorem dX11_qJoins_164 : decode cX11_qJoins 164 = .ok (.goto 109, 3) := dk_167 0 109 (dk_at dksX11_qJoins_6 3 rfl rfl)
theorem dX11_qJoins_167 : decode cX11_qJoins 167 = .ok (.aload_n 0, 1) := dk_42 (dk_at dksX11_qJoins_6 6 rfl rfl)
theorem dX11_qJoins_168 : decode cX11_qJoins 168 = .ok (.lload 4, 2) := dk_22 4 (dk_at dksX11_qJoins_6 7 rfl rfl)
theorem dX11_qJoins_170 : decode cX11_qJoins 170 = .ok (.lload_n 2, 1) := dk_32 (dk_at dksX11_qJoins_6 9 rfl rfl)
theorem dX11_qJoins_171 : decode cX11_qJoins 171 = .ok (.lcmp, 1) := dk_148 (dk_at dksX11_qJoins_6 10 rfl rfl)
theorem dX11_qJoins_172 : decode cX11_qJoins 172 = .ok (.ifCond .le 8, 3) := dk_158 0 8 (dk_at dksX11_qJoins_6 11 rfl rfl)
theorem dX11_qJoins_175 : decode cX11_qJoins 175 = .ok (.lload 4, 2) := dk_22 4 (dk_at dksX11_qJoins_6 14 rfl rfl)
theorem dX11_qJoins_177 : decode cX11_qJoins 177 = .ok (.goto 4, 3) := dk_167 0 4 (dk_at dksX11_qJoins_6 16 rfl rfl)
theorem dX11_qJoins_180 : decode cX11_qJoins 180 = .ok (.lload_n 2, 1) := dk_32 (dk_at dksX11_qJoins_6 19 rfl rfl)
theorem dX11_qJoins_181 : decode cX11_qJoins 181 = .ok (.invokevirtual 369, 3) := dk_182 1 113 (dk_at dksX11_qJoins_6 20 rfl rfl)
theorem dX11_qJoins_184 : decode cX11_qJoins 184 = .ok (.goto 89, 3) := dk_167 0 89 (dk_at dksX11_qJoins_7 0 rfl rfl)
theorem dX11_qJoins_187 : decode cX11_qJoins 187 = .ok (.aload_n 0, 1) := dk_42 (dk_at dksX11_qJoins_7 3 rfl rfl)
theorem dX11_qJoins_188 : decode cX11_qJoins 188 = .ok (.lload 4, 2) := dk_22 4 (dk_at dksX11_qJoins_7 4 rfl rfl)
theorem dX11_qJoins_190 : decode cX11_qJoins 190 = .ok (.lload_n 2, 1) := dk_32 (dk_at dksX11_qJoins_7 6 rfl rfl)
theorem dX11_qJoins_191 : decode cX11_qJoins 191 = .ok (.lcmp, 1) := dk_148 (dk_at dksX11_qJoins_7 7 rfl rfl)
theorem dX11_qJoins_192 : decode cX11_qJoins 192 = .ok (.ifCond .ge 7, 3) := dk_156 0 7 (dk_at dksX11_qJoins_7 8 rfl rfl)
theorem dX11_qJoins_195 : decode cX11_qJoins 195 = .ok (.lconst 1, 1) := dk_10 (dk_at dksX11_qJoins_7 11 rfl rfl)
theorem dX11_qJoins_196 : decode cX11_qJoins 196 = .ok (.goto 4, 3) := dk_167 0 4 (dk_at dksX11_qJoins_7 12 rfl rfl)
theorem dX11_qJoins_199 : decode cX11_qJoins 199 = .ok (.lconst 0, 1) := dk_9 (dk_at dksX11_qJoins_7 15 rfl rfl)
theorem dX11_qJoins_200 : decode cX11_qJoins 200 = .ok (.invokevirtual 369, 3) := dk_182 1 113 (dk_at dksX11_qJoins_7 16 rfl rfl)
theorem dX11_qJoins_203 : decode cX11_qJoins 203 = .ok (.goto 70, 3) := dk_167 0 70 (dk_at dksX11_qJoins_7 19 rfl rfl)
theorem dX11_qJoins_206 : decode cX11_qJoins 206 = .ok (.aload_n 0, 1) := dk_42 (dk_at dksX11_qJoins_7 22 rfl rfl)
theorem dX11_qJoins_207 : decode cX11_qJoins 207 = .ok (.lload 4, 2) := dk_22 4 (dk_at dksX11_qJoins_8 0 rfl rfl)
theorem dX11_qJoins_209 : decode cX11_qJoins 209 = .ok (.lload_n 2, 1) := dk_32 (dk_at dksX11_qJoins_8 2 rfl rfl)
theorem dX11_qJoins_210 : decode cX11_qJoins 210 = .ok (.lcmp, 1) := dk_148 (dk_at dksX11_qJoins_8 3 rfl rfl)
theorem dX11_qJoins_211 : decode cX11_qJoins 211 = .ok (.ifCond .le 7, 3) := dk_158 0 7 (dk_at dksX11_qJoins_8 4 rfl rfl)
theorem dX11_qJoins_214 : decode cX11_qJoins 214 = .ok (.lconst 1, 1) := dk_10 (dk_at dksX11_qJoins_8 7 rfl rfl)
theorem dX11_qJoins_215 : decode cX11_qJoins 215 = .ok (.goto 4, 3) := dk_167 0 4 (dk_at dksX11_qJoins_8 8 rfl rfl)
theorem dX11_qJoins_218 : decode cX11_qJoins 218 = .ok (.lconst 0, 1) := dk_9 (dk_at dksX11_qJoins_8 11 rfl rfl)
theorem dX11_qJoins_219 : decode cX11_qJoins 219 = .ok (.invokevirtual 369, 3) := dk_182 1 113 (dk_at dksX11_qJoins_8 12 rfl rfl)
theorem dX11_qJoins_222 : decode cX11_qJoins 222 = .ok (.goto 51, 3) := dk_167 0 51 (dk_at dksX11_qJoins_8 15 rfl rfl)
theorem dX11_qJoins_225 : decode cX11_qJoins 225 = .ok (.aload_n 0, 1) := dk_42 (dk_at dksX11_qJoins_8 18 rfl rfl)
theorem dX11_qJoins_226 : decode cX11_qJoins 226 = .ok (.lload 4, 2) := dk_22 4 (dk_at dksX11_qJoins_8 19 rfl rfl)
theorem dX11_qJoins_228 : decode cX11_qJoins 228 = .ok (.lload_n 2, 1) := dk_32 (dk_at dksX11_qJoins_8 21 rfl rfl)
theorem dX11_qJoins_229 : decode cX11_qJoins 229 = .ok (.lcmp, 1) := dk_148 (dk_at dksX11_qJoins_8 22 rfl rfl)
theorem dX11_qJoins_230 : decode cX11_qJoins 230 = .ok (.ifCond .ne 7, 3) := dk_154 0 7 (dk_at dksX11_qJoins_9 0 rfl rfl)
theorem dX11_qJoins_233 : decode cX11_qJoins 233 = .ok (.lconst 1, 1) := dk_10 (dk_at dksX11_qJoins_9 3 rfl rfl)
theorem dX11_qJoins_234 : decode cX11_qJoins 234 = .ok (.goto 4, 3) := dk_167 0 4 (dk_at dksX11_qJoins_9 4 rfl rfl)
theorem dX11_qJoins_237 : decode cX11_qJoins 237 = .ok (.lconst 0, 1) := dk_9 (dk_at dksX11_qJoins_9 7 rfl rfl)
theorem dX11_qJoins_238 : decode cX11_qJoins 238 = .ok (.invokevirtual 369, 3) := dk_182 1 113 (dk_at dksX11_qJoins_9 8 rfl rfl)
theorem dX11_qJoins_241 : decode cX11_qJoins 241 = .ok (.goto 32, 3) := dk_167 0 32 (dk_at dksX11_qJoins_9 11 rfl rfl)
theorem dX11_qJoins_244 : decode cX11_qJoins 244 = .ok (.aload_n 0, 1) := dk_42 (dk_at dksX11_qJoins_9 14 rfl rfl)
theorem dX11_qJoins_245 : decode cX11_qJoins 245 = .ok (.lload 4, 2) := dk_22 4 (dk_at dksX11_qJoins_9 15 rfl rfl)
theorem dX11_qJoins_247 : decode cX11_qJoins 247 = .ok (.lload_n 2, 1) := dk_32 (dk_at dksX11_qJoins_9 17 rfl rfl)
theorem dX11_qJoins_248 : decode cX11_qJoins 248 = .ok (.lmul, 1) := dk_105 (dk_at dksX11_qJoins_9 18 rfl rfl)
theorem dX11_qJoins_249 : decode cX11_qJoins 249 = .ok (.invokevirtual 369, 3) := dk_182 1 113 (dk_at dksX11_qJoins_9 19 rfl rfl)
theorem dX11_qJoins_252 : decode cX11_qJoins 252 = .ok (.goto 21, 3) := dk_167 0 21 (dk_at dksX11_qJoins_10 0 rfl rfl)
theorem dX11_qJoins_255 : decode cX11_qJoins 255 = .ok (.aload_n 0, 1) := dk_42 (dk_at dksX11_qJoins_10 3 rfl rfl)
theorem dX11_qJoins_256 : decode cX11_qJoins 256 = .ok (.lload 4, 2) := dk_22 4 (dk_at dksX11_qJoins_10 4 rfl rfl)
theorem dX11_qJoins_258 : decode cX11_qJoins 258 = .ok (.lload_n 2, 1) := dk_32 (dk_at dksX11_qJoins_10 6 rfl rfl)
theorem dX11_qJoins_259 : decode cX11_qJoins 259 = .ok (.ladd, 1) := dk_97 (dk_at dksX11_qJoins_10 7 rfl rfl)
theorem dX11_qJoins_260 : decode cX11_qJoins 260 = .ok (.lconst 0, 1) := dk_9 (dk_at dksX11_qJoins_10 8 rfl rfl)
theorem dX11_qJoins_261 : decode cX11_qJoins 261 = .ok (.lcmp, 1) := dk_148 (dk_at dksX11_qJoins_10 9 rfl rfl)
theorem dX11_qJoins_262 : decode cX11_qJoins 262 = .ok (.ifCond .le 7, 3) := dk_158 0 7 (dk_at dksX11_qJoins_10 10 rfl rfl)
theorem dX11_qJoins_265 : decode cX11_qJoins 265 = .ok (.lconst 1, 1) := dk_10 (dk_at dksX11_qJoins_10 13 rfl rfl)
theorem dX11_qJoins_266 : decode cX11_qJoins 266 = .ok (.goto 4, 3) := dk_167 0 4 (dk_at dksX11_qJoins_10 14 rfl rfl)
theorem dX11_qJoins_269 : decode cX11_qJoins 269 = .ok (.lconst 0, 1) := dk_9 (dk_at dksX11_qJoins_10 17 rfl rfl)
theorem dX11_qJoins_270 : decode cX11_qJoins 270 = .ok (.invokevirtual 369, 3) := dk_182 1 113 (dk_at dksX11_qJoins_10 18 rfl rfl)
theorem dX11_qJoins_273 : decode cX11_qJoins 273 = .ok (.return_, 1) := dk_177 (dk_at dksX11_qJoins_10 21 rfl rfl)
abbrev cX11_qClip : ByteArray := prog_26_method_142_code
def yX11_qClip : MethodName := ⟨RX11, "qClip", "(J)J"⟩
def dkwX11_qClip_1 : List UInt8 := [20, 2, 200, 167, 0, 4, 30, 173]
abbrev dktX11_qClip_1 : List UInt8 := dkwX11_qClip_1 ++ []
def dkwX11_qClip_0 : List UInt8 := [30, 20, 2, 198, 148, 158, 0, 9, 20, 2, 198, 167, 0, 18, 30, 20, 2, 200, 148, 156, 0, 9]
abbrev dktX11_qClip_0 : List UInt8 := dkwX11_qClip_0 ++ dktX11_qClip_1
theorem dksX11_qClip_0 : cX11_qClip.data.toList.drop 0 = dktX11_qClip_0 := by decide +kernel
theorem dksX11_qClip_1 : cX11_qClip.data.toList.drop 22 = dktX11_qClip_1 := dk_seg dksX11_qClip_0 22 rfl rfl
theorem dX11_qClip_0 : decode cX11_qClip 0 = .ok (.lload_n 0, 1) := dk_30 (dk_at dksX11_qClip_0 0 rfl rfl)
theorem dX11_qClip_1 : decode cX11_qClip 1 = .ok (.ldc2_w 710, 3) := dk_20 2 198 (dk_at dksX11_qClip_0 1 rfl rfl)
theorem dX11_qClip_4 : decode cX11_qClip 4 = .ok (.lcmp, 1) := dk_148 (dk_at dksX11_qClip_0 4 rfl rfl)
theorem dX11_qClip_5 : decode cX11_qClip 5 = .ok (.ifCond .le 9, 3) := dk_158 0 9 (dk_at dksX11_qClip_0 5 rfl rfl)
theorem dX11_qClip_8 : decode cX11_qClip 8 = .ok (.ldc2_w 710, 3) := dk_20 2 198 (dk_at dksX11_qClip_0 8 rfl rfl)
theorem dX11_qClip_11 : decode cX11_qClip 11 = .ok (.goto 18, 3) := dk_167 0 18 (dk_at dksX11_qClip_0 11 rfl rfl)
theorem dX11_qClip_14 : decode cX11_qClip 14 = .ok (.lload_n 0, 1) := dk_30 (dk_at dksX11_qClip_0 14 rfl rfl)
theorem dX11_qClip_15 : decode cX11_qClip 15 = .ok (.ldc2_w 712, 3) := dk_20 2 200 (dk_at dksX11_qClip_0 15 rfl rfl)
theorem dX11_qClip_18 : decode cX11_qClip 18 = .ok (.lcmp, 1) := dk_148 (dk_at dksX11_qClip_0 18 rfl rfl)
theorem dX11_qClip_19 : decode cX11_qClip 19 = .ok (.ifCond .ge 9, 3) := dk_156 0 9 (dk_at dksX11_qClip_0 19 rfl rfl)
theorem dX11_qClip_22 : decode cX11_qClip 22 = .ok (.ldc2_w 712, 3) := dk_20 2 200 (dk_at dksX11_qClip_1 0 rfl rfl)
theorem dX11_qClip_25 : decode cX11_qClip 25 = .ok (.goto 4, 3) := dk_167 0 4 (dk_at dksX11_qClip_1 3 rfl rfl)
theorem dX11_qClip_28 : decode cX11_qClip 28 = .ok (.lload_n 0, 1) := dk_30 (dk_at dksX11_qClip_1 6 rfl rfl)
theorem dX11_qClip_29 : decode cX11_qClip 29 = .ok (.lreturn, 1) := dk_173 (dk_at dksX11_qClip_1 7 rfl rfl)
abbrev cX11_qFloor : ByteArray := prog_26_method_143_code
def yX11_qFloor : MethodName := ⟨RX11, "qFloor", "(JJ)J"⟩
def dkwX11_qFloor_2 : List UInt8 := [10, 101, 167, 0, 5, 22, 4, 173]
abbrev dktX11_qFloor_2 : List UInt8 := dkwX11_qFloor_2 ++ []
def dkwX11_qFloor_1 : List UInt8 := [156, 0, 7, 4, 167, 0, 4, 3, 32, 9, 148, 156, 0, 7, 4, 167, 0, 4, 3, 159, 0, 10, 22, 4]
abbrev dktX11_qFloor_1 : List UInt8 := dkwX11_qFloor_1 ++ dktX11_qFloor_2
def dkwX11_qFloor_0 : List UInt8 := [32, 9, 148, 154, 0, 5, 9, 173, 30, 32, 109, 55, 4, 30, 32, 113, 9, 148, 153, 0, 35, 30, 9, 148]
abbrev dktX11_qFloor_0 : List UInt8 := dkwX11_qFloor_0 ++ dktX11_qFloor_1
theorem dksX11_qFloor_0 : cX11_qFloor.data.toList.drop 0 = dktX11_qFloor_0 := by decide +kernel
theorem dksX11_qFloor_1 : cX11_qFloor.data.toList.drop 24 = dktX11_qFloor_1 := dk_seg dksX11_qFloor_0 24 rfl rfl
theorem dksX11_qFloor_2 : cX11_qFloor.data.toList.drop 48 = dktX11_qFloor_2 := dk_seg dksX11_qFloor_1 24 rfl rfl
theorem dX11_qFloor_0 : decode cX11_qFloor 0 = .ok (.lload_n 2, 1) := dk_32 (dk_at dksX11_qFloor_0 0 rfl rfl)
theorem dX11_qFloor_1 : decode cX11_qFloor 1 = .ok (.lconst 0, 1) := dk_9 (dk_at dksX11_qFloor_0 1 rfl rfl)
theorem dX11_qFloor_2 : decode cX11_qFloor 2 = .ok (.lcmp, 1) := dk_148 (dk_at dksX11_qFloor_0 2 rfl rfl)
theorem dX11_qFloor_3 : decode cX11_qFloor 3 = .ok (.ifCond .ne 5, 3) := dk_154 0 5 (dk_at dksX11_qFloor_0 3 rfl rfl)
theorem dX11_qFloor_6 : decode cX11_qFloor 6 = .ok (.lconst 0, 1) := dk_9 (dk_at dksX11_qFloor_0 6 rfl rfl)
theorem dX11_qFloor_7 : decode cX11_qFloor 7 = .ok (.lreturn, 1) := dk_173 (dk_at dksX11_qFloor_0 7 rfl rfl)
theorem dX11_qFloor_8 : decode cX11_qFloor 8 = .ok (.lload_n 0, 1) := dk_30 (dk_at dksX11_qFloor_0 8 rfl rfl)
theorem dX11_qFloor_9 : decode cX11_qFloor 9 = .ok (.lload_n 2, 1) := dk_32 (dk_at dksX11_qFloor_0 9 rfl rfl)
theorem dX11_qFloor_10 : decode cX11_qFloor 10 = .ok (.ldiv, 1) := dk_109 (dk_at dksX11_qFloor_0 10 rfl rfl)
theorem dX11_qFloor_11 : decode cX11_qFloor 11 = .ok (.lstore 4, 2) := dk_55 4 (dk_at dksX11_qFloor_0 11 rfl rfl)
theorem dX11_qFloor_13 : decode cX11_qFloor 13 = .ok (.lload_n 0, 1) := dk_30 (dk_at dksX11_qFloor_0 13 rfl rfl)
theorem dX11_qFloor_14 : decode cX11_qFloor 14 = .ok (.lload_n 2, 1) := dk_32 (dk_at dksX11_qFloor_0 14 rfl rfl)
theorem dX11_qFloor_15 : decode cX11_qFloor 15 = .ok (.lrem, 1) := dk_113 (dk_at dksX11_qFloor_0 15 rfl rfl)
theorem dX11_qFloor_16 : decode cX11_qFloor 16 = .ok (.lconst 0, 1) := dk_9 (dk_at dksX11_qFloor_0 16 rfl rfl)
theorem dX11_qFloor_17 : decode cX11_qFloor 17 = .ok (.lcmp, 1) := dk_148 (dk_at dksX11_qFloor_0 17 rfl rfl)
theorem dX11_qFloor_18 : decode cX11_qFloor 18 = .ok (.ifCond .eq 35, 3) := dk_153 0 35 (dk_at dksX11_qFloor_0 18 rfl rfl)
theorem dX11_qFloor_21 : decode cX11_qFloor 21 = .ok (.lload_n 0, 1) := dk_30 (dk_at dksX11_qFloor_0 21 rfl rfl)
theorem dX11_qFloor_22 : decode cX11_qFloor 22 = .ok (.lconst 0, 1) := dk_9 (dk_at dksX11_qFloor_0 22 rfl rfl)
theorem dX11_qFloor_23 : decode cX11_qFloor 23 = .ok (.lcmp, 1) := dk_148 (dk_at dksX11_qFloor_0 23 rfl rfl)
theorem dX11_qFloor_24 : decode cX11_qFloor 24 = .ok (.ifCond .ge 7, 3) := dk_156 0 7 (dk_at dksX11_qFloor_1 0 rfl rfl)
theorem dX11_qFloor_27 : decode cX11_qFloor 27 = .ok (.iconst 1, 1) := dk_4 (dk_at dksX11_qFloor_1 3 rfl rfl)
theorem dX11_qFloor_28 : decode cX11_qFloor 28 = .ok (.goto 4, 3) := dk_167 0 4 (dk_at dksX11_qFloor_1 4 rfl rfl)
theorem dX11_qFloor_31 : decode cX11_qFloor 31 = .ok (.iconst 0, 1) := dk_3 (dk_at dksX11_qFloor_1 7 rfl rfl)
theorem dX11_qFloor_32 : decode cX11_qFloor 32 = .ok (.lload_n 2, 1) := dk_32 (dk_at dksX11_qFloor_1 8 rfl rfl)
theorem dX11_qFloor_33 : decode cX11_qFloor 33 = .ok (.lconst 0, 1) := dk_9 (dk_at dksX11_qFloor_1 9 rfl rfl)
theorem dX11_qFloor_34 : decode cX11_qFloor 34 = .ok (.lcmp, 1) := dk_148 (dk_at dksX11_qFloor_1 10 rfl rfl)
theorem dX11_qFloor_35 : decode cX11_qFloor 35 = .ok (.ifCond .ge 7, 3) := dk_156 0 7 (dk_at dksX11_qFloor_1 11 rfl rfl)
theorem dX11_qFloor_38 : decode cX11_qFloor 38 = .ok (.iconst 1, 1) := dk_4 (dk_at dksX11_qFloor_1 14 rfl rfl)
theorem dX11_qFloor_39 : decode cX11_qFloor 39 = .ok (.goto 4, 3) := dk_167 0 4 (dk_at dksX11_qFloor_1 15 rfl rfl)
theorem dX11_qFloor_42 : decode cX11_qFloor 42 = .ok (.iconst 0, 1) := dk_3 (dk_at dksX11_qFloor_1 18 rfl rfl)
theorem dX11_qFloor_43 : decode cX11_qFloor 43 = .ok (.if_icmp .eq 10, 3) := dk_159 0 10 (dk_at dksX11_qFloor_1 19 rfl rfl)
theorem dX11_qFloor_46 : decode cX11_qFloor 46 = .ok (.lload 4, 2) := dk_22 4 (dk_at dksX11_qFloor_1 22 rfl rfl)
theorem dX11_qFloor_48 : decode cX11_qFloor 48 = .ok (.lconst 1, 1) := dk_10 (dk_at dksX11_qFloor_2 0 rfl rfl)
theorem dX11_qFloor_49 : decode cX11_qFloor 49 = .ok (.lsub, 1) := dk_101 (dk_at dksX11_qFloor_2 1 rfl rfl)
theorem dX11_qFloor_50 : decode cX11_qFloor 50 = .ok (.goto 5, 3) := dk_167 0 5 (dk_at dksX11_qFloor_2 2 rfl rfl)
theorem dX11_qFloor_53 : decode cX11_qFloor 53 = .ok (.lload 4, 2) := dk_22 4 (dk_at dksX11_qFloor_2 5 rfl rfl)
theorem dX11_qFloor_55 : decode cX11_qFloor 55 = .ok (.lreturn, 1) := dk_173 (dk_at dksX11_qFloor_2 7 rfl rfl)
abbrev cX11_areLaid : ByteArray := prog_26_method_48_code
def yX11_areLaid : MethodName := ⟨RX11, "areLaid", "(I)Z"⟩
def dkwX11_areLaid_5 : List UInt8 := [21, 4, 46, 79, 132, 4, 1, 167, 255, 227, 28, 172]
abbrev dktX11_areLaid_5 : List UInt8 := dkwX11_areLaid_5 ++ []
def dkwX11_areLaid_4 : List UInt8 := [54, 4, 21, 4, 17, 8, 196, 162, 0, 27, 28, 154, 0, 23, 42, 180, 0, 111, 21, 4, 42, 180, 0, 117]
abbrev dktX11_areLaid_4 : List UInt8 := dkwX11_areLaid_4 ++ dktX11_areLaid_5
def dkwX11_areLaid_3 : List UInt8 := [42, 29, 21, 4, 96, 182, 1, 177, 61, 132, 4, 1, 167, 255, 234, 42, 180, 0, 111, 16, 13, 3, 79, 3]
abbrev dktX11_areLaid_3 : List UInt8 := dkwX11_areLaid_3 ++ dktX11_areLaid_4
def dkwX11_areLaid_2 : List UInt8 := [16, 13, 42, 180, 0, 111, 8, 46, 4, 96, 79, 3, 54, 4, 21, 4, 27, 162, 0, 22, 28, 153, 0, 18]
abbrev dktX11_areLaid_2 : List UInt8 := dkwX11_areLaid_2 ++ dktX11_areLaid_3
def dkwX11_areLaid_1 : List UInt8 := [167, 255, 234, 4, 61, 42, 180, 0, 111, 4, 46, 42, 180, 0, 111, 16, 11, 46, 100, 62, 42, 180, 0, 111]
abbrev dktX11_areLaid_1 : List UInt8 := dkwX11_areLaid_1 ++ dktX11_areLaid_2
def dkwX11_areLaid_0 : List UInt8 := [3, 61, 28, 17, 8, 196, 162, 0, 21, 42, 180, 0, 117, 28, 42, 180, 0, 111, 28, 46, 79, 132, 2, 1]
abbrev dktX11_areLaid_0 : List UInt8 := dkwX11_areLaid_0 ++ dktX11_areLaid_1
theorem dksX11_areLaid_0 : cX11_areLaid.data.toList.drop 0 = dktX11_areLaid_0 := by decide +kernel
theorem dksX11_areLaid_1 : cX11_areLaid.data.toList.drop 24 = dktX11_areLaid_1 := dk_seg dksX11_areLaid_0 24 rfl rfl
theorem dksX11_areLaid_2 : cX11_areLaid.data.toList.drop 48 = dktX11_areLaid_2 := dk_seg dksX11_areLaid_1 24 rfl rfl
theorem dksX11_areLaid_3 : cX11_areLaid.data.toList.drop 72 = dktX11_areLaid_3 := dk_seg dksX11_areLaid_2 24 rfl rfl
theorem dksX11_areLaid_4 : cX11_areLaid.data.toList.drop 96 = dktX11_areLaid_4 := dk_seg dksX11_areLaid_3 24 rfl rfl
theorem dksX11_areLaid_5 : cX11_areLaid.data.toList.drop 120 = dktX11_areLaid_5 := dk_seg dksX11_areLaid_4 24 rfl rfl
theorem dX11_areLaid_0 : decode cX11_areLaid 0 = .ok (.iconst 0, 1) := dk_3 (dk_at dksX11_areLaid_0 0 rfl rfl)
theorem dX11_areLaid_1 : decode cX11_areLaid 1 = .ok (.istore_n 2, 1) := dk_61 (dk_at dksX11_areLaid_0 1 rfl rfl)
theorem dX11_areLaid_2 : decode cX11_areLaid 2 = .ok (.iload_n 2, 1) := dk_28 (dk_at dksX11_areLaid_0 2 rfl rfl)
theorem dX11_areLaid_3 : decode cX11_areLaid 3 = .ok (.sipush 2244, 3) := dk_17 8 196 (dk_at dksX11_areLaid_0 3 rfl rfl)
theorem dX11_areLaid_6 : decode cX11_areLaid 6 = .ok (.if_icmp .ge 21, 3) := dk_162 0 21 (dk_at dksX11_areLaid_0 6 rfl rfl)
theorem dX11_areLaid_9 : decode cX11_areLaid 9 = .ok (.aload_n 0, 1) := dk_42 (dk_at dksX11_areLaid_0 9 rfl rfl)
theorem dX11_areLaid_10 : decode cX11_areLaid 10 = .ok (.getfield 117, 3) := dk_180 0 117 (dk_at dksX11_areLaid_0 10 rfl rfl)
theorem dX11_areLaid_13 : decode cX11_areLaid 13 = .ok (.iload_n 2, 1) := dk_28 (dk_at dksX11_areLaid_0 13 rfl rfl)
theorem dX11_areLaid_14 : decode cX11_areLaid 14 = .ok (.aload_n 0, 1) := dk_42 (dk_at dksX11_areLaid_0 14 rfl rfl)
theorem dX11_areLaid_15 : decode cX11_areLaid 15 = .ok (.getfield 111, 3) := dk_180 0 111 (dk_at dksX11_areLaid_0 15 rfl rfl)
theorem dX11_areLaid_18 : decode cX11_areLaid 18 = .ok (.iload_n 2, 1) := dk_28 (dk_at dksX11_areLaid_0 18 rfl rfl)
theorem dX11_areLaid_19 : decode cX11_areLaid 19 = .ok (.iaload, 1) := dk_46 (dk_at dksX11_areLaid_0 19 rfl rfl)
theorem dX11_areLaid_20 : decode cX11_areLaid 20 = .ok (.iastore, 1) := dk_79 (dk_at dksX11_areLaid_0 20 rfl rfl)
theorem dX11_areLaid_21 : decode cX11_areLaid 21 = .ok (.iinc 2 1, 3) := dk_132 2 1 (dk_at dksX11_areLaid_0 21 rfl rfl)
theorem dX11_areLaid_24 : decode cX11_areLaid 24 = .ok (.goto (-22), 3) := dk_167 255 234 (dk_at dksX11_areLaid_1 0 rfl rfl)
theorem dX11_areLaid_27 : decode cX11_areLaid 27 = .ok (.iconst 1, 1) := dk_4 (dk_at dksX11_areLaid_1 3 rfl rfl)
theorem dX11_areLaid_28 : decode cX11_areLaid 28 = .ok (.istore_n 2, 1) := dk_61 (dk_at dksX11_areLaid_1 4 rfl rfl)
theorem dX11_areLaid_29 : decode cX11_areLaid 29 = .ok (.aload_n 0, 1) := dk_42 (dk_at dksX11_areLaid_1 5 rfl rfl)
theorem dX11_areLaid_30 : decode cX11_areLaid 30 = .ok (.getfield 111, 3) := dk_180 0 111 (dk_at dksX11_areLaid_1 6 rfl rfl)
theorem dX11_areLaid_33 : decode cX11_areLaid 33 = .ok (.iconst 1, 1) := dk_4 (dk_at dksX11_areLaid_1 9 rfl rfl)
theorem dX11_areLaid_34 : decode cX11_areLaid 34 = .ok (.iaload, 1) := dk_46 (dk_at dksX11_areLaid_1 10 rfl rfl)
theorem dX11_areLaid_35 : decode cX11_areLaid 35 = .ok (.aload_n 0, 1) := dk_42 (dk_at dksX11_areLaid_1 11 rfl rfl)
theorem dX11_areLaid_36 : decode cX11_areLaid 36 = .ok (.getfield 111, 3) := dk_180 0 111 (dk_at dksX11_areLaid_1 12 rfl rfl)
theorem dX11_areLaid_39 : decode cX11_areLaid 39 = .ok (.bipush 11, 2) := dk_16 11 (dk_at dksX11_areLaid_1 15 rfl rfl)
theorem dX11_areLaid_41 : decode cX11_areLaid 41 = .ok (.iaload, 1) := dk_46 (dk_at dksX11_areLaid_1 17 rfl rfl)
theorem dX11_areLaid_42 : decode cX11_areLaid 42 = .ok (.isub, 1) := dk_100 (dk_at dksX11_areLaid_1 18 rfl rfl)
theorem dX11_areLaid_43 : decode cX11_areLaid 43 = .ok (.istore_n 3, 1) := dk_62 (dk_at dksX11_areLaid_1 19 rfl rfl)
theorem dX11_areLaid_44 : decode cX11_areLaid 44 = .ok (.aload_n 0, 1) := dk_42 (dk_at dksX11_areLaid_1 20 rfl rfl)
theorem dX11_areLaid_45 : decode cX11_areLaid 45 = .ok (.getfield 111, 3) := dk_180 0 111 (dk_at dksX11_areLaid_1 21 rfl rfl)
theorem dX11_areLaid_48 : decode cX11_areLaid 48 = .ok (.bipush 13, 2) := dk_16 13 (dk_at dksX11_areLaid_2 0 rfl rfl)
theorem dX11_areLaid_50 : decode cX11_areLaid 50 = .ok (.aload_n 0, 1) := dk_42 (dk_at dksX11_areLaid_2 2 rfl rfl)
theorem dX11_areLaid_51 : decode cX11_areLaid 51 = .ok (.getfield 111, 3) := dk_180 0 111 (dk_at dksX11_areLaid_2 3 rfl rfl)
theorem dX11_areLaid_54 : decode cX11_areLaid 54 = .ok (.iconst 5, 1) := dk_8 (dk_at dksX11_areLaid_2 6 rfl rfl)
theorem dX11_areLaid_55 : decode cX11_areLaid 55 = .ok (.iaload, 1) := dk_46 (dk_at dksX11_areLaid_2 7 rfl rfl)
theorem dX11_areLaid_56 : decode cX11_areLaid 56 = .ok (.iconst 1, 1) := dk_4 (dk_at dksX11_areLaid_2 8 rfl rfl)
theorem dX11_areLaid_57 : decode cX11_areLaid 57 = .ok (.iadd, 1) := dk_96 (dk_at dksX11_areLaid_2 9 rfl rfl)
theorem dX11_areLaid_58 : decode cX11_areLaid 58 = .ok (.iastore, 1) := dk_79 (dk_at dksX11_areLaid_2 10 rfl rfl)
theorem dX11_areLaid_59 : decode cX11_areLaid 59 = .ok (.iconst 0, 1) := dk_3 (dk_at dksX11_areLaid_2 11 rfl rfl)
theorem dX11_areLaid_60 : decode cX11_areLaid 60 = .ok (.istore 4, 2) := dk_54 4 (dk_at dksX11_areLaid_2 12 rfl rfl)
theorem dX11_areLaid_62 : decode cX11_areLaid 62 = .ok (.iload 4, 2) := dk_21 4 (dk_at dksX11_areLaid_2 14 rfl rfl)
theorem dX11_areLaid_64 : decode cX11_areLaid 64 = .ok (.iload_n 1, 1) := dk_27 (dk_at dksX11_areLaid_2 16 rfl rfl)
theorem dX11_areLaid_65 : decode cX11_areLaid 65 = .ok (.if_icmp .ge 22, 3) := dk_162 0 22 (dk_at dksX11_areLaid_2 17 rfl rfl)
theorem dX11_areLaid_68 : decode cX11_areLaid 68 = .ok (.iload_n 2, 1) := dk_28 (dk_at dksX11_areLaid_2 20 rfl rfl)
theorem dX11_areLaid_69 : decode cX11_areLaid 69 = .ok (.ifCond .eq 18, 3) := dk_153 0 18 (dk_at dksX11_areLaid_2 21 rfl rfl)
theorem dX11_areLaid_72 : decode cX11_areLaid 72 = .ok (.aload_n 0, 1) := dk_42 (dk_at dksX11_areLaid_3 0 rfl rfl)
theorem dX11_areLaid_73 : decode cX11_areLaid 73 = .ok (.iload_n 3, 1) := dk_29 (dk_at dksX11_areLaid_3 1 rfl rfl)
theorem dX11_areLaid_74 : decode cX11_areLaid 74 = .ok (.iload 4, 2) := dk_21 4 (dk_at dksX11_areLaid_3 2 rfl rfl)
theorem dX11_areLaid_76 : decode cX11_areLaid 76 = .ok (.iadd, 1) := dk_96 (dk_at dksX11_areLaid_3 4 rfl rfl)
theorem dX11_areLaid_77 : decode cX11_areLaid 77 = .ok (.invokevirtual 433, 3) := dk_182 1 177 (dk_at dksX11_areLaid_3 5 rfl rfl)
theorem dX11_areLaid_80 : decode cX11_areLaid 80 = .ok (.istore_n 2, 1) := dk_61 (dk_at dksX11_areLaid_3 8 rfl rfl)
theorem dX11_areLaid_81 : decode cX11_areLaid 81 = .ok (.iinc 4 1, 3) := dk_132 4 1 (dk_at dksX11_areLaid_3 9 rfl rfl)
theorem dX11_areLaid_84 : decode cX11_areLaid 84 = .ok (.goto (-22), 3) := dk_167 255 234 (dk_at dksX11_areLaid_3 12 rfl rfl)
theorem dX11_areLaid_87 : decode cX11_areLaid 87 = .ok (.aload_n 0, 1) := dk_42 (dk_at dksX11_areLaid_3 15 rfl rfl)
theorem dX11_areLaid_88 : decode cX11_areLaid 88 = .ok (.getfield 111, 3) := dk_180 0 111 (dk_at dksX11_areLaid_3 16 rfl rfl)
theorem dX11_areLaid_91 : decode cX11_areLaid 91 = .ok (.bipush 13, 2) := dk_16 13 (dk_at dksX11_areLaid_3 19 rfl rfl)
theorem dX11_areLaid_93 : decode cX11_areLaid 93 = .ok (.iconst 0, 1) := dk_3 (dk_at dksX11_areLaid_3 21 rfl rfl)
theorem dX11_areLaid_94 : decode cX11_areLaid 94 = .ok (.iastore, 1) := dk_79 (dk_at dksX11_areLaid_3 22 rfl rfl)
theorem dX11_areLaid_95 : decode cX11_areLaid 95 = .ok (.iconst 0, 1) := dk_3 (dk_at dksX11_areLaid_3 23 rfl rfl)
theorem dX11_areLaid_96 : decode cX11_areLaid 96 = .ok (.istore 4, 2) := dk_54 4 (dk_at dksX11_areLaid_4 0 rfl rfl)
theorem dX11_areLaid_98 : decode cX11_areLaid 98 = .ok (.iload 4, 2) := dk_21 4 (dk_at dksX11_areLaid_4 2 rfl rfl)
theorem dX11_areLaid_100 : decode cX11_areLaid 100 = .ok (.sipush 2244, 3) := dk_17 8 196 (dk_at dksX11_areLaid_4 4 rfl rfl)
theorem dX11_areLaid_103 : decode cX11_areLaid 103 = .ok (.if_icmp .ge 27, 3) := dk_162 0 27 (dk_at dksX11_areLaid_4 7 rfl rfl)
theorem dX11_areLaid_106 : decode cX11_areLaid 106 = .ok (.iload_n 2, 1) := dk_28 (dk_at dksX11_areLaid_4 10 rfl rfl)
theorem dX11_areLaid_107 : decode cX11_areLaid 107 = .ok (.ifCond .ne 23, 3) := dk_154 0 23 (dk_at dksX11_areLaid_4 11 rfl rfl)
theorem dX11_areLaid_110 : decode cX11_areLaid 110 = .ok (.aload_n 0, 1) := dk_42 (dk_at dksX11_areLaid_4 14 rfl rfl)
theorem dX11_areLaid_111 : decode cX11_areLaid 111 = .ok (.getfield 111, 3) := dk_180 0 111 (dk_at dksX11_areLaid_4 15 rfl rfl)
theorem dX11_areLaid_114 : decode cX11_areLaid 114 = .ok (.iload 4, 2) := dk_21 4 (dk_at dksX11_areLaid_4 18 rfl rfl)
theorem dX11_areLaid_116 : decode cX11_areLaid 116 = .ok (.aload_n 0, 1) := dk_42 (dk_at dksX11_areLaid_4 20 rfl rfl)
theorem dX11_areLaid_117 : decode cX11_areLaid 117 = .ok (.getfield 117, 3) := dk_180 0 117 (dk_at dksX11_areLaid_4 21 rfl rfl)
theorem dX11_areLaid_120 : decode cX11_areLaid 120 = .ok (.iload 4, 2) := dk_21 4 (dk_at dksX11_areLaid_5 0 rfl rfl)
theorem dX11_areLaid_122 : decode cX11_areLaid 122 = .ok (.iaload, 1) := dk_46 (dk_at dksX11_areLaid_5 2 rfl rfl)
theorem dX11_areLaid_123 : decode cX11_areLaid 123 = .ok (.iastore, 1) := dk_79 (dk_at dksX11_areLaid_5 3 rfl rfl)
theorem dX11_areLaid_124 : decode cX11_areLaid 124 = .ok (.iinc 4 1, 3) := dk_132 4 1 (dk_at dksX11_areLaid_5 4 rfl rfl)
theorem dX11_areLaid_127 : decode cX11_areLaid 127 = .ok (.goto (-29), 3) := dk_167 255 227 (dk_at dksX11_areLaid_5 7 rfl rfl)
theorem dX11_areLaid_130 : decode cX11_areLaid 130 = .ok (.iload_n 2, 1) := dk_28 (dk_at dksX11_areLaid_5 10 rfl rfl)
theorem dX11_areLaid_131 : decode cX11_areLaid 131 = .ok (.ireturn, 1) := dk_172 (dk_at dksX11_areLaid_5 11 rfl rfl)
abbrev cX11_isLaid : ByteArray := prog_26_method_47_code
def yX11_isLaid : MethodName := ⟨RX11, "isLaid", "(I)Z"⟩
def dkwX11_isLaid_8 : List UInt8 := [167, 255, 161, 42, 180, 0, 111, 17, 0, 192, 42, 180, 0, 111, 8, 46, 96, 27, 79, 4, 172]
abbrev dktX11_isLaid_8 : List UInt8 := dkwX11_isLaid_8 ++ []
def dkwX11_isLaid_7 : List UInt8 := [21, 4, 167, 0, 6, 29, 7, 100, 54, 5, 42, 27, 28, 21, 5, 182, 1, 174, 28, 21, 5, 96, 61]
abbrev dktX11_isLaid_7 : List UInt8 := dkwX11_isLaid_7 ++ dktX11_isLaid_8
def dkwX11_isLaid_6 : List UInt8 := [167, 255, 242, 167, 255, 204, 42, 27, 182, 1, 152, 28, 100, 54, 4, 21, 4, 29, 7, 100, 162, 0, 8]
abbrev dktX11_isLaid_6 : List UInt8 := dkwX11_isLaid_6 ++ dktX11_isLaid_7
def dkwX11_isLaid_5 : List UInt8 := [29, 7, 163, 0, 26, 3, 54, 4, 21, 4, 29, 162, 0, 14, 42, 3, 182, 1, 164, 132, 4, 1]
abbrev dktX11_isLaid_5 : List UInt8 := dkwX11_isLaid_5 ++ dktX11_isLaid_6
def dkwX11_isLaid_4 : List UInt8 := [182, 1, 152, 162, 0, 92, 42, 182, 1, 149, 42, 180, 0, 111, 16, 6, 46, 42, 182, 1, 149, 112, 100, 62]
abbrev dktX11_isLaid_4 : List UInt8 := dkwX11_isLaid_4 ++ dktX11_isLaid_5
def dkwX11_isLaid_3 : List UInt8 := [180, 0, 111, 16, 6, 46, 42, 27, 182, 1, 152, 182, 1, 167, 154, 0, 5, 3, 172, 3, 61, 28, 42, 27]
abbrev dktX11_isLaid_3 : List UInt8 := dkwX11_isLaid_3 ++ dktX11_isLaid_4
def dkwX11_isLaid_2 : List UInt8 := [180, 0, 111, 16, 7, 46, 27, 29, 182, 1, 134, 182, 1, 164, 132, 3, 1, 167, 255, 231, 42, 42]
abbrev dktX11_isLaid_2 : List UInt8 := dkwX11_isLaid_2 ++ dktX11_isLaid_3
def dkwX11_isLaid_1 : List UInt8 := [28, 2, 160, 0, 5, 3, 172, 42, 28, 182, 1, 131, 3, 62, 29, 8, 162, 0, 26, 42, 42, 42]
abbrev dktX11_isLaid_1 : List UInt8 := dkwX11_isLaid_1 ++ dktX11_isLaid_2
def dkwX11_isLaid_0 : List UInt8 := [42, 42, 180, 0, 111, 16, 6, 46, 42, 27, 182, 1, 152, 182, 1, 167, 154, 0, 50, 42, 182, 1, 171, 61]
abbrev dktX11_isLaid_0 : List UInt8 := dkwX11_isLaid_0 ++ dktX11_isLaid_1
theorem dksX11_isLaid_0 : cX11_isLaid.data.toList.drop 0 = dktX11_isLaid_0 := by decide +kernel
theorem dksX11_isLaid_1 : cX11_isLaid.data.toList.drop 24 = dktX11_isLaid_1 := dk_seg dksX11_isLaid_0 24 rfl rfl
theorem dksX11_isLaid_2 : cX11_isLaid.data.toList.drop 46 = dktX11_isLaid_2 := dk_seg dksX11_isLaid_1 22 rfl rfl
theorem dksX11_isLaid_3 : cX11_isLaid.data.toList.drop 68 = dktX11_isLaid_3 := dk_seg dksX11_isLaid_2 22 rfl rfl
theorem dksX11_isLaid_4 : cX11_isLaid.data.toList.drop 92 = dktX11_isLaid_4 := dk_seg dksX11_isLaid_3 24 rfl rfl
theorem dksX11_isLaid_5 : cX11_isLaid.data.toList.drop 116 = dktX11_isLaid_5 := dk_seg dksX11_isLaid_4 24 rfl rfl
theorem dksX11_isLaid_6 : cX11_isLaid.data.toList.drop 138 = dktX11_isLaid_6 := dk_seg dksX11_isLaid_5 22 rfl rfl
theorem dksX11_isLaid_7 : cX11_isLaid.data.toList.drop 161 = dktX11_isLaid_7 := dk_seg dksX11_isLaid_6 23 rfl rfl
theorem dksX11_isLaid_8 : cX11_isLaid.data.toList.drop 184 = dktX11_isLaid_8 := dk_seg dksX11_isLaid_7 23 rfl rfl
theorem dX11_isLaid_0 : decode cX11_isLaid 0 = .ok (.aload_n 0, 1) := dk_42 (dk_at dksX11_isLaid_0 0 rfl rfl)
theorem dX11_isLaid_1 : decode cX11_isLaid 1 = .ok (.aload_n 0, 1) := dk_42 (dk_at dksX11_isLaid_0 1 rfl rfl)
theorem dX11_isLaid_2 : decode cX11_isLaid 2 = .ok (.getfield 111, 3) := dk_180 0 111 (dk_at dksX11_isLaid_0 2 rfl rfl)
theorem dX11_isLaid_5 : decode cX11_isLaid 5 = .ok (.bipush 6, 2) := dk_16 6 (dk_at dksX11_isLaid_0 5 rfl rfl)
theorem dX11_isLaid_7 : decode cX11_isLaid 7 = .ok (.iaload, 1) := dk_46 (dk_at dksX11_isLaid_0 7 rfl rfl)
theorem dX11_isLaid_8 : decode cX11_isLaid 8 = .ok (.aload_n 0, 1) := dk_42 (dk_at dksX11_isLaid_0 8 rfl rfl)
theorem dX11_isLaid_9 : decode cX11_isLaid 9 = .ok (.iload_n 1, 1) := dk_27 (dk_at dksX11_isLaid_0 9 rfl rfl)
theorem dX11_isLaid_10 : decode cX11_isLaid 10 = .ok (.invokevirtual 408, 3) := dk_182 1 152 (dk_at dksX11_isLaid_0 10 rfl rfl)
theorem dX11_isLaid_13 : decode cX11_isLaid 13 = .ok (.invokevirtual 423, 3) := dk_182 1 167 (dk_at dksX11_isLaid_0 13 rfl rfl)
theorem dX11_isLaid_16 : decode cX11_isLaid 16 = .ok (.ifCond .ne 50, 3) := dk_154 0 50 (dk_at dksX11_isLaid_0 16 rfl rfl)
theorem dX11_isLaid_19 : decode cX11_isLaid 19 = .ok (.aload_n 0, 1) := dk_42 (dk_at dksX11_isLaid_0 19 rfl rfl)
theorem dX11_isLaid_20 : decode cX11_isLaid 20 = .ok (.invokevirtual 427, 3) := dk_182 1 171 (dk_at dksX11_isLaid_0 20 rfl rfl)
theorem dX11_isLaid_23 : decode cX11_isLaid 23 = .ok (.istore_n 2, 1) := dk_61 (dk_at dksX11_isLaid_0 23 rfl rfl)
theorem dX11_isLaid_24 : decode cX11_isLaid 24 = .ok (.iload_n 2, 1) := dk_28 (dk_at dksX11_isLaid_1 0 rfl rfl)
theorem dX11_isLaid_25 : decode cX11_isLaid 25 = .ok (.iconst (-1), 1) := dk_2 (dk_at dksX11_isLaid_1 1 rfl rfl)
theorem dX11_isLaid_26 : decode cX11_isLaid 26 = .ok (.if_icmp .ne 5, 3) := dk_160 0 5 (dk_at dksX11_isLaid_1 2 rfl rfl)
theorem dX11_isLaid_29 : decode cX11_isLaid 29 = .ok (.iconst 0, 1) := dk_3 (dk_at dksX11_isLaid_1 5 rfl rfl)
theorem dX11_isLaid_30 : decode cX11_isLaid 30 = .ok (.ireturn, 1) := dk_172 (dk_at dksX11_isLaid_1 6 rfl rfl)
theorem dX11_isLaid_31 : decode cX11_isLaid 31 = .ok (.aload_n 0, 1) := dk_42 (dk_at dksX11_isLaid_1 7 rfl rfl)
theorem dX11_isLaid_32 : decode cX11_isLaid 32 = .ok (.iload_n 2, 1) := dk_28 (dk_at dksX11_isLaid_1 8 rfl rfl)
theorem dX11_isLaid_33 : decode cX11_isLaid 33 = .ok (.invokevirtual 387, 3) := dk_182 1 131 (dk_at dksX11_isLaid_1 9 rfl rfl)
theorem dX11_isLaid_36 : decode cX11_isLaid 36 = .ok (.iconst 0, 1) := dk_3 (dk_at dksX11_isLaid_1 12 rfl rfl)
theorem dX11_isLaid_37 : decode cX11_isLaid 37 = .ok (.istore_n 3, 1) := dk_62 (dk_at dksX11_isLaid_1 13 rfl rfl)
theorem dX11_isLaid_38 : decode cX11_isLaid 38 = .ok (.iload_n 3, 1) := dk_29 (dk_at dksX11_isLaid_1 14 rfl rfl)
theorem dX11_isLaid_39 : decode cX11_isLaid 39 = .ok (.iconst 5, 1) := dk_8 (dk_at dksX11_isLaid_1 15 rfl rfl)
theorem dX11_isLaid_40 : decode cX11_isLaid 40 = .ok (.if_icmp .ge 26, 3) := dk_162 0 26 (dk_at dksX11_isLaid_1 16 rfl rfl)
theorem dX11_isLaid_43 : decode cX11_isLaid 43 = .ok (.aload_n 0, 1) := dk_42 (dk_at dksX11_isLaid_1 19 rfl rfl)
theorem dX11_isLaid_44 : decode cX11_isLaid 44 = .ok (.aload_n 0, 1) := dk_42 (dk_at dksX11_isLaid_1 20 rfl rfl)
theorem dX11_isLaid_45 : decode cX11_isLaid 45 = .ok (.aload_n 0, 1) := dk_42 (dk_at dksX11_isLaid_1 21 rfl rfl)
theorem dX11_isLaid_46 : decode cX11_isLaid 46 = .ok (.getfield 111, 3) := dk_180 0 111 (dk_at dksX11_isLaid_2 0 rfl rfl)
theorem dX11_isLaid_49 : decode cX11_isLaid 49 = .ok (.bipush 7, 2) := dk_16 7 (dk_at dksX11_isLaid_2 3 rfl rfl)
theorem dX11_isLaid_51 : decode cX11_isLaid 51 = .ok (.iaload, 1) := dk_46 (dk_at dksX11_isLaid_2 5 rfl rfl)
theorem dX11_isLaid_52 : decode cX11_isLaid 52 = .ok (.iload_n 1, 1) := dk_27 (dk_at dksX11_isLaid_2 6 rfl rfl)
theorem dX11_isLaid_53 : decode cX11_isLaid 53 = .ok (.iload_n 3, 1) := dk_29 (dk_at dksX11_isLaid_2 7 rfl rfl)
theorem dX11_isLaid_54 : decode cX11_isLaid 54 = .ok (.invokevirtual 390, 3) := dk_182 1 134 (dk_at dksX11_isLaid_2 8 rfl rfl)
theorem dX11_isLaid_57 : decode cX11_isLaid 57 = .ok (.invokevirtual 420, 3) := dk_182 1 164 (dk_at dksX11_isLaid_2 11 rfl rfl)
theorem dX11_isLaid_60 : decode cX11_isLaid 60 = .ok (.iinc 3 1, 3) := dk_132 3 1 (dk_at dksX11_isLaid_2 14 rfl rfl)
theorem dX11_isLaid_63 : decode cX11_isLaid 63 = .ok (.goto (-25), 3) := dk_167 255 231 (dk_at dksX11_isLaid_2 17 rfl rfl)
theorem dX11_isLaid_66 : decode cX11_isLaid 66 = .ok (.aload_n 0, 1) := dk_42 (dk_at dksX11_isLaid_2 20 rfl rfl)
theorem dX11_isLaid_67 : decode cX11_isLaid 67 = .ok (.aload_n 0, 1) := dk_42 (dk_at dksX11_isLaid_2 21 rfl rfl)
theorem dX11_isLaid_68 : decode cX11_isLaid 68 = .ok (.getfield 111, 3) := dk_180 0 111 (dk_at dksX11_isLaid_3 0 rfl rfl)
theorem dX11_isLaid_71 : decode cX11_isLaid 71 = .ok (.bipush 6, 2) := dk_16 6 (dk_at dksX11_isLaid_3 3 rfl rfl)
theorem dX11_isLaid_73 : decode cX11_isLaid 73 = .ok (.iaload, 1) := dk_46 (dk_at dksX11_isLaid_3 5 rfl rfl)
theorem dX11_isLaid_74 : decode cX11_isLaid 74 = .ok (.aload_n 0, 1) := dk_42 (dk_at dksX11_isLaid_3 6 rfl rfl)
theorem dX11_isLaid_75 : decode cX11_isLaid 75 = .ok (.iload_n 1, 1) := dk_27 (dk_at dksX11_isLaid_3 7 rfl rfl)
theorem dX11_isLaid_76 : decode cX11_isLaid 76 = .ok (.invokevirtual 408, 3) := dk_182 1 152 (dk_at dksX11_isLaid_3 8 rfl rfl)
theorem dX11_isLaid_79 : decode cX11_isLaid 79 = .ok (.invokevirtual 423, 3) := dk_182 1 167 (dk_at dksX11_isLaid_3 11 rfl rfl)
theorem dX11_isLaid_82 : decode cX11_isLaid 82 = .ok (.ifCond .ne 5, 3) := dk_154 0 5 (dk_at dksX11_isLaid_3 14 rfl rfl)
theorem dX11_isLaid_85 : decode cX11_isLaid 85 = .ok (.iconst 0, 1) := dk_3 (dk_at dksX11_isLaid_3 17 rfl rfl)
theorem dX11_isLaid_86 : decode cX11_isLaid 86 = .ok (.ireturn, 1) := dk_172 (dk_at dksX11_isLaid_3 18 rfl rfl)
theorem dX11_isLaid_87 : decode cX11_isLaid 87 = .ok (.iconst 0, 1) := dk_3 (dk_at dksX11_isLaid_3 19 rfl rfl)
theorem dX11_isLaid_88 : decode cX11_isLaid 88 = .ok (.istore_n 2, 1) := dk_61 (dk_at dksX11_isLaid_3 20 rfl rfl)
theorem dX11_isLaid_89 : decode cX11_isLaid 89 = .ok (.iload_n 2, 1) := dk_28 (dk_at dksX11_isLaid_3 21 rfl rfl)
theorem dX11_isLaid_90 : decode cX11_isLaid 90 = .ok (.aload_n 0, 1) := dk_42 (dk_at dksX11_isLaid_3 22 rfl rfl)
theorem dX11_isLaid_91 : decode cX11_isLaid 91 = .ok (.iload_n 1, 1) := dk_27 (dk_at dksX11_isLaid_3 23 rfl rfl)
theorem dX11_isLaid_92 : decode cX11_isLaid 92 = .ok (.invokevirtual 408, 3) := dk_182 1 152 (dk_at dksX11_isLaid_4 0 rfl rfl)
theorem dX11_isLaid_95 : decode cX11_isLaid 95 = .ok (.if_icmp .ge 92, 3) := dk_162 0 92 (dk_at dksX11_isLaid_4 3 rfl rfl)
theorem dX11_isLaid_98 : decode cX11_isLaid 98 = .ok (.aload_n 0, 1) := dk_42 (dk_at dksX11_isLaid_4 6 rfl rfl)
theorem dX11_isLaid_99 : decode cX11_isLaid 99 = .ok (.invokevirtual 405, 3) := dk_182 1 149 (dk_at dksX11_isLaid_4 7 rfl rfl)
theorem dX11_isLaid_102 : decode cX11_isLaid 102 = .ok (.aload_n 0, 1) := dk_42 (dk_at dksX11_isLaid_4 10 rfl rfl)
theorem dX11_isLaid_103 : decode cX11_isLaid 103 = .ok (.getfield 111, 3) := dk_180 0 111 (dk_at dksX11_isLaid_4 11 rfl rfl)
theorem dX11_isLaid_106 : decode cX11_isLaid 106 = .ok (.bipush 6, 2) := dk_16 6 (dk_at dksX11_isLaid_4 14 rfl rfl)
theorem dX11_isLaid_108 : decode cX11_isLaid 108 = .ok (.iaload, 1) := dk_46 (dk_at dksX11_isLaid_4 16 rfl rfl)
theorem dX11_isLaid_109 : decode cX11_isLaid 109 = .ok (.aload_n 0, 1) := dk_42 (dk_at dksX11_isLaid_4 17 rfl rfl)
theorem dX11_isLaid_110 : decode cX11_isLaid 110 = .ok (.invokevirtual 405, 3) := dk_182 1 149 (dk_at dksX11_isLaid_4 18 rfl rfl)
theorem dX11_isLaid_113 : decode cX11_isLaid 113 = .ok (.irem, 1) := dk_112 (dk_at dksX11_isLaid_4 21 rfl rfl)
theorem dX11_isLaid_114 : decode cX11_isLaid 114 = .ok (.isub, 1) := dk_100 (dk_at dksX11_isLaid_4 22 rfl rfl)
theorem dX11_isLaid_115 : decode cX11_isLaid 115 = .ok (.istore_n 3, 1) := dk_62 (dk_at dksX11_isLaid_4 23 rfl rfl)
theorem dX11_isLaid_116 : decode cX11_isLaid 116 = .ok (.iload_n 3, 1) := dk_29 (dk_at dksX11_isLaid_5 0 rfl rfl)
theorem dX11_isLaid_117 : decode cX11_isLaid 117 = .ok (.iconst 4, 1) := dk_7 (dk_at dksX11_isLaid_5 1 rfl rfl)
theorem dX11_isLaid_118 : decode cX11_isLaid 118 = .ok (.if_icmp .gt 26, 3) := dk_163 0 26 (dk_at dksX11_isLaid_5 2 rfl rfl)
theorem dX11_isLaid_121 : decode cX11_isLaid 121 = .ok (.iconst 0, 1) := dk_3 (dk_at dksX11_isLaid_5 5 rfl rfl)
theorem dX11_isLaid_122 : decode cX11_isLaid 122 = .ok (.istore 4, 2) := dk_54 4 (dk_at dksX11_isLaid_5 6 rfl rfl)
theorem dX11_isLaid_124 : decode cX11_isLaid 124 = .ok (.iload 4, 2) := dk_21 4 (dk_at dksX11_isLaid_5 8 rfl rfl)
theorem dX11_isLaid_126 : decode cX11_isLaid 126 = .ok (.iload_n 3, 1) := dk_29 (dk_at dksX11_isLaid_5 10 rfl rfl)
theorem dX11_isLaid_127 : decode cX11_isLaid 127 = .ok (.if_icmp .ge 14, 3) := dk_162 0 14 (dk_at dksX11_isLaid_5 11 rfl rfl)
theorem dX11_isLaid_130 : decode cX11_isLaid 130 = .ok (.aload_n 0, 1) := dk_42 (dk_at dksX11_isLaid_5 14 rfl rfl)
theorem dX11_isLaid_131 : decode cX11_isLaid 131 = .ok (.iconst 0, 1) := dk_3 (dk_at dksX11_isLaid_5 15 rfl rfl)
theorem dX11_isLaid_132 : decode cX11_isLaid 132 = .ok (.invokevirtual 420, 3) := dk_182 1 164 (dk_at dksX11_isLaid_5 16 rfl rfl)
theorem dX11_isLaid_135 : decode cX11_isLaid 135 = .ok (.iinc 4 1, 3) := dk_132 4 1 (dk_at dksX11_isLaid_5 19 rfl rfl)
theorem dX11_isLaid_138 : decode cX11_isLaid 138 = .ok (.goto (-14), 3) := dk_167 255 242 (dk_at dksX11_isLaid_6 0 rfl rfl)
theorem dX11_isLaid_141 : decode cX11_isLaid 141 = .ok (.goto (-52), 3) := dk_167 255 204 (dk_at dksX11_isLaid_6 3 rfl rfl)
theorem dX11_isLaid_144 : decode cX11_isLaid 144 = .ok (.aload_n 0, 1) := dk_42 (dk_at dksX11_isLaid_6 6 rfl rfl)
theorem dX11_isLaid_145 : decode cX11_isLaid 145 = .ok (.iload_n 1, 1) := dk_27 (dk_at dksX11_isLaid_6 7 rfl rfl)
theorem dX11_isLaid_146 : decode cX11_isLaid 146 = .ok (.invokevirtual 408, 3) := dk_182 1 152 (dk_at dksX11_isLaid_6 8 rfl rfl)
theorem dX11_isLaid_149 : decode cX11_isLaid 149 = .ok (.iload_n 2, 1) := dk_28 (dk_at dksX11_isLaid_6 11 rfl rfl)
theorem dX11_isLaid_150 : decode cX11_isLaid 150 = .ok (.isub, 1) := dk_100 (dk_at dksX11_isLaid_6 12 rfl rfl)
theorem dX11_isLaid_151 : decode cX11_isLaid 151 = .ok (.istore 4, 2) := dk_54 4 (dk_at dksX11_isLaid_6 13 rfl rfl)
theorem dX11_isLaid_153 : decode cX11_isLaid 153 = .ok (.iload 4, 2) := dk_21 4 (dk_at dksX11_isLaid_6 15 rfl rfl)
theorem dX11_isLaid_155 : decode cX11_isLaid 155 = .ok (.iload_n 3, 1) := dk_29 (dk_at dksX11_isLaid_6 17 rfl rfl)
theorem dX11_isLaid_156 : decode cX11_isLaid 156 = .ok (.iconst 4, 1) := dk_7 (dk_at dksX11_isLaid_6 18 rfl rfl)
theorem dX11_isLaid_157 : decode cX11_isLaid 157 = .ok (.isub, 1) := dk_100 (dk_at dksX11_isLaid_6 19 rfl rfl)
theorem dX11_isLaid_158 : decode cX11_isLaid 158 = .ok (.if_icmp .ge 8, 3) := dk_162 0 8 (dk_at dksX11_isLaid_6 20 rfl rfl)
theorem dX11_isLaid_161 : decode cX11_isLaid 161 = .ok (.iload 4, 2) := dk_21 4 (dk_at dksX11_isLaid_7 0 rfl rfl)
theorem dX11_isLaid_163 : decode cX11_isLaid 163 = .ok (.goto 6, 3) := dk_167 0 6 (dk_at dksX11_isLaid_7 2 rfl rfl)
theorem dX11_isLaid_166 : decode cX11_isLaid 166 = .ok (.iload_n 3, 1) := dk_29 (dk_at dksX11_isLaid_7 5 rfl rfl)
theorem dX11_isLaid_167 : decode cX11_isLaid 167 = .ok (.iconst 4, 1) := dk_7 (dk_at dksX11_isLaid_7 6 rfl rfl)
theorem dX11_isLaid_168 : decode cX11_isLaid 168 = .ok (.isub, 1) := dk_100 (dk_at dksX11_isLaid_7 7 rfl rfl)
theorem dX11_isLaid_169 : decode cX11_isLaid 169 = .ok (.istore 5, 2) := dk_54 5 (dk_at dksX11_isLaid_7 8 rfl rfl)
theorem dX11_isLaid_171 : decode cX11_isLaid 171 = .ok (.aload_n 0, 1) := dk_42 (dk_at dksX11_isLaid_7 10 rfl rfl)
theorem dX11_isLaid_172 : decode cX11_isLaid 172 = .ok (.iload_n 1, 1) := dk_27 (dk_at dksX11_isLaid_7 11 rfl rfl)
theorem dX11_isLaid_173 : decode cX11_isLaid 173 = .ok (.iload_n 2, 1) := dk_28 (dk_at dksX11_isLaid_7 12 rfl rfl)
theorem dX11_isLaid_174 : decode cX11_isLaid 174 = .ok (.iload 5, 2) := dk_21 5 (dk_at dksX11_isLaid_7 13 rfl rfl)
theorem dX11_isLaid_176 : decode cX11_isLaid 176 = .ok (.invokevirtual 430, 3) := dk_182 1 174 (dk_at dksX11_isLaid_7 15 rfl rfl)
theorem dX11_isLaid_179 : decode cX11_isLaid 179 = .ok (.iload_n 2, 1) := dk_28 (dk_at dksX11_isLaid_7 18 rfl rfl)
theorem dX11_isLaid_180 : decode cX11_isLaid 180 = .ok (.iload 5, 2) := dk_21 5 (dk_at dksX11_isLaid_7 19 rfl rfl)
theorem dX11_isLaid_182 : decode cX11_isLaid 182 = .ok (.iadd, 1) := dk_96 (dk_at dksX11_isLaid_7 21 rfl rfl)
theorem dX11_isLaid_183 : decode cX11_isLaid 183 = .ok (.istore_n 2, 1) := dk_61 (dk_at dksX11_isLaid_7 22 rfl rfl)
theorem dX11_isLaid_184 : decode cX11_isLaid 184 = .ok (.goto (-95), 3) := dk_167 255 161 (dk_at dksX11_isLaid_8 0 rfl rfl)
theorem dX11_isLaid_187 : decode cX11_isLaid 187 = .ok (.aload_n 0, 1) := dk_42 (dk_at dksX11_isLaid_8 3 rfl rfl)
theorem dX11_isLaid_188 : decode cX11_isLaid 188 = .ok (.getfield 111, 3) := dk_180 0 111 (dk_at dksX11_isLaid_8 4 rfl rfl)
theorem dX11_isLaid_191 : decode cX11_isLaid 191 = .ok (.sipush 192, 3) := dk_17 0 192 (dk_at dksX11_isLaid_8 7 rfl rfl)
theorem dX11_isLaid_194 : decode cX11_isLaid 194 = .ok (.aload_n 0, 1) := dk_42 (dk_at dksX11_isLaid_8 10 rfl rfl)
theorem dX11_isLaid_195 : decode cX11_isLaid 195 = .ok (.getfield 111, 3) := dk_180 0 111 (dk_at dksX11_isLaid_8 11 rfl rfl)
theorem dX11_isLaid_198 : decode cX11_isLaid 198 = .ok (.iconst 5, 1) := dk_8 (dk_at dksX11_isLaid_8 14 rfl rfl)
theorem dX11_isLaid_199 : decode cX11_isLaid 199 = .ok (.iaload, 1) := dk_46 (dk_at dksX11_isLaid_8 15 rfl rfl)
theorem dX11_isLaid_200 : decode cX11_isLaid 200 = .ok (.iadd, 1) := dk_96 (dk_at dksX11_isLaid_8 16 rfl rfl)
theorem dX11_isLaid_201 : decode cX11_isLaid 201 = .ok (.iload_n 1, 1) := dk_27 (dk_at dksX11_isLaid_8 17 rfl rfl)
theorem dX11_isLaid_202 : decode cX11_isLaid 202 = .ok (.iastore, 1) := dk_79 (dk_at dksX11_isLaid_8 18 rfl rfl)
theorem dX11_isLaid_203 : decode cX11_isLaid 203 = .ok (.iconst 1, 1) := dk_4 (dk_at dksX11_isLaid_8 19 rfl rfl)
theorem dX11_isLaid_204 : decode cX11_isLaid 204 = .ok (.ireturn, 1) := dk_172 (dk_at dksX11_isLaid_8 20 rfl rfl)
abbrev cX11_freeOne : ByteArray := prog_26_method_43_code
def yX11_freeOne : MethodName := ⟨RX11, "freeOne", "()I"⟩
def dkwX11_freeOne_1 : List UInt8 := [167, 255, 235, 2, 172]
abbrev dktX11_freeOne_1 : List UInt8 := dkwX11_freeOne_1 ++ []
def dkwX11_freeOne_0 : List UInt8 := [3, 60, 27, 42, 182, 1, 104, 162, 0, 19, 42, 27, 182, 1, 143, 153, 0, 5, 27, 172, 132, 1, 1]
abbrev dktX11_freeOne_0 : List UInt8 := dkwX11_freeOne_0 ++ dktX11_freeOne_1
theorem dksX11_freeOne_0 : cX11_freeOne.data.toList.drop 0 = dktX11_freeOne_0 := by decide +kernel
theorem dksX11_freeOne_1 : cX11_freeOne.data.toList.drop 23 = dktX11_freeOne_1 := dk_seg dksX11_freeOne_0 23 rfl rfl
theorem dX11_freeOne_0 : decode cX11_freeOne 0 = .ok (.iconst 0, 1) := dk_3 (dk_at dksX11_freeOne_0 0 rfl rfl)
theorem dX11_freeOne_1 : decode cX11_freeOne 1 = .ok (.istore_n 1, 1) := dk_60 (dk_at dksX11_freeOne_0 1 rfl rfl)
theorem dX11_freeOne_2 : decode cX11_freeOne 2 = .ok (.iload_n 1, 1) := dk_27 (dk_at dksX11_freeOne_0 2 rfl rfl)
theorem dX11_freeOne_3 : decode cX11_freeOne 3 = .ok (.aload_n 0, 1) := dk_42 (dk_at dksX11_freeOne_0 3 rfl rfl)
theorem dX11_freeOne_4 : decode cX11_freeOne 4 = .ok (.invokevirtual 360, 3) := dk_182 1 104 (dk_at dksX11_freeOne_0 4 rfl rfl)
theorem dX11_freeOne_7 : decode cX11_freeOne 7 = .ok (.if_icmp .ge 19, 3) := dk_162 0 19 (dk_at dksX11_freeOne_0 7 rfl rfl)
theorem dX11_freeOne_10 : decode cX11_freeOne 10 = .ok (.aload_n 0, 1) := dk_42 (dk_at dksX11_freeOne_0 10 rfl rfl)
theorem dX11_freeOne_11 : decode cX11_freeOne 11 = .ok (.iload_n 1, 1) := dk_27 (dk_at dksX11_freeOne_0 11 rfl rfl)
theorem dX11_freeOne_12 : decode cX11_freeOne 12 = .ok (.invokevirtual 399, 3) := dk_182 1 143 (dk_at dksX11_freeOne_0 12 rfl rfl)
theorem dX11_freeOne_15 : decode cX11_freeOne 15 = .ok (.ifCond .eq 5, 3) := dk_153 0 5 (dk_at dksX11_freeOne_0 15 rfl rfl)
theorem dX11_freeOne_18 : decode cX11_freeOne 18 = .ok (.iload_n 1, 1) := dk_27 (dk_at dksX11_freeOne_0 18 rfl rfl)
theorem dX11_freeOne_19 : decode cX11_freeOne 19 = .ok (.ireturn, 1) := dk_172 (dk_at dksX11_freeOne_0 19 rfl rfl)
theorem dX11_freeOne_20 : decode cX11_freeOne 20 = .ok (.iinc 1 1, 3) := dk_132 1 1 (dk_at dksX11_freeOne_0 20 rfl rfl)
theorem dX11_freeOne_23 : decode cX11_freeOne 23 = .ok (.goto (-21), 3) := dk_167 255 235 (dk_at dksX11_freeOne_1 0 rfl rfl)
theorem dX11_freeOne_26 : decode cX11_freeOne 26 = .ok (.iconst (-1), 1) := dk_2 (dk_at dksX11_freeOne_1 3 rfl rfl)
theorem dX11_freeOne_27 : decode cX11_freeOne 27 = .ok (.ireturn, 1) := dk_172 (dk_at dksX11_freeOne_1 4 rfl rfl)
abbrev cX11_goesOut : ByteArray := prog_26_method_36_code
def yX11_goesOut : MethodName := ⟨RX11, "goesOut", "(I)V"⟩
def dkwX11_goesOut_2 : List UInt8 := [79, 42, 180, 0, 111, 7, 92, 46, 4, 96, 79, 42, 180, 0, 111, 16, 6, 92, 46, 4, 96, 79, 177]
abbrev dktX11_goesOut_2 : List UInt8 := dkwX11_goesOut_2 ++ []
def dkwX11_goesOut_1 : List UInt8 := [42, 180, 0, 111, 16, 6, 46, 96, 79, 42, 180, 0, 111, 17, 6, 196, 42, 180, 0, 111, 7, 46, 96, 27]
abbrev dktX11_goesOut_1 : List UInt8 := dkwX11_goesOut_1 ++ dktX11_goesOut_2
def dkwX11_goesOut_0 : List UInt8 := [42, 180, 0, 111, 17, 4, 196, 42, 180, 0, 111, 7, 46, 96, 17, 0, 128, 42, 180, 0, 111, 8, 46, 104]
abbrev dktX11_goesOut_0 : List UInt8 := dkwX11_goesOut_0 ++ dktX11_goesOut_1
theorem dksX11_goesOut_0 : cX11_goesOut.data.toList.drop 0 = dktX11_goesOut_0 := by decide +kernel
theorem dksX11_goesOut_1 : cX11_goesOut.data.toList.drop 24 = dktX11_goesOut_1 := dk_seg dksX11_goesOut_0 24 rfl rfl
theorem dksX11_goesOut_2 : cX11_goesOut.data.toList.drop 48 = dktX11_goesOut_2 := dk_seg dksX11_goesOut_1 24 rfl rfl
theorem dX11_goesOut_0 : decode cX11_goesOut 0 = .ok (.aload_n 0, 1) := dk_42 (dk_at dksX11_goesOut_0 0 rfl rfl)
theorem dX11_goesOut_1 : decode cX11_goesOut 1 = .ok (.getfield 111, 3) := dk_180 0 111 (dk_at dksX11_goesOut_0 1 rfl rfl)
theorem dX11_goesOut_4 : decode cX11_goesOut 4 = .ok (.sipush 1220, 3) := dk_17 4 196 (dk_at dksX11_goesOut_0 4 rfl rfl)
theorem dX11_goesOut_7 : decode cX11_goesOut 7 = .ok (.aload_n 0, 1) := dk_42 (dk_at dksX11_goesOut_0 7 rfl rfl)
theorem dX11_goesOut_8 : decode cX11_goesOut 8 = .ok (.getfield 111, 3) := dk_180 0 111 (dk_at dksX11_goesOut_0 8 rfl rfl)
theorem dX11_goesOut_11 : decode cX11_goesOut 11 = .ok (.iconst 4, 1) := dk_7 (dk_at dksX11_goesOut_0 11 rfl rfl)
theorem dX11_goesOut_12 : decode cX11_goesOut 12 = .ok (.iaload, 1) := dk_46 (dk_at dksX11_goesOut_0 12 rfl rfl)
theorem dX11_goesOut_13 : decode cX11_goesOut 13 = .ok (.iadd, 1) := dk_96 (dk_at dksX11_goesOut_0 13 rfl rfl)
theorem dX11_goesOut_14 : decode cX11_goesOut 14 = .ok (.sipush 128, 3) := dk_17 0 128 (dk_at dksX11_goesOut_0 14 rfl rfl)
theorem dX11_goesOut_17 : decode cX11_goesOut 17 = .ok (.aload_n 0, 1) := dk_42 (dk_at dksX11_goesOut_0 17 rfl rfl)
theorem dX11_goesOut_18 : decode cX11_goesOut 18 = .ok (.getfield 111, 3) := dk_180 0 111 (dk_at dksX11_goesOut_0 18 rfl rfl)
theorem dX11_goesOut_21 : decode cX11_goesOut 21 = .ok (.iconst 5, 1) := dk_8 (dk_at dksX11_goesOut_0 21 rfl rfl)
theorem dX11_goesOut_22 : decode cX11_goesOut 22 = .ok (.iaload, 1) := dk_46 (dk_at dksX11_goesOut_0 22 rfl rfl)
theorem dX11_goesOut_23 : decode cX11_goesOut 23 = .ok (.imul, 1) := dk_104 (dk_at dksX11_goesOut_0 23 rfl rfl)
theorem dX11_goesOut_24 : decode cX11_goesOut 24 = .ok (.aload_n 0, 1) := dk_42 (dk_at dksX11_goesOut_1 0 rfl rfl)
theorem dX11_goesOut_25 : decode cX11_goesOut 25 = .ok (.getfield 111, 3) := dk_180 0 111 (dk_at dksX11_goesOut_1 1 rfl rfl)
theorem dX11_goesOut_28 : decode cX11_goesOut 28 = .ok (.bipush 6, 2) := dk_16 6 (dk_at dksX11_goesOut_1 4 rfl rfl)
theorem dX11_goesOut_30 : decode cX11_goesOut 30 = .ok (.iaload, 1) := dk_46 (dk_at dksX11_goesOut_1 6 rfl rfl)
theorem dX11_goesOut_31 : decode cX11_goesOut 31 = .ok (.iadd, 1) := dk_96 (dk_at dksX11_goesOut_1 7 rfl rfl)
theorem dX11_goesOut_32 : decode cX11_goesOut 32 = .ok (.iastore, 1) := dk_79 (dk_at dksX11_goesOut_1 8 rfl rfl)
theorem dX11_goesOut_33 : decode cX11_goesOut 33 = .ok (.aload_n 0, 1) := dk_42 (dk_at dksX11_goesOut_1 9 rfl rfl)
theorem dX11_goesOut_34 : decode cX11_goesOut 34 = .ok (.getfield 111, 3) := dk_180 0 111 (dk_at dksX11_goesOut_1 10 rfl rfl)
theorem dX11_goesOut_37 : decode cX11_goesOut 37 = .ok (.sipush 1732, 3) := dk_17 6 196 (dk_at dksX11_goesOut_1 13 rfl rfl)
theorem dX11_goesOut_40 : decode cX11_goesOut 40 = .ok (.aload_n 0, 1) := dk_42 (dk_at dksX11_goesOut_1 16 rfl rfl)
theorem dX11_goesOut_41 : decode cX11_goesOut 41 = .ok (.getfield 111, 3) := dk_180 0 111 (dk_at dksX11_goesOut_1 17 rfl rfl)
theorem dX11_goesOut_44 : decode cX11_goesOut 44 = .ok (.iconst 4, 1) := dk_7 (dk_at dksX11_goesOut_1 20 rfl rfl)
theorem dX11_goesOut_45 : decode cX11_goesOut 45 = .ok (.iaload, 1) := dk_46 (dk_at dksX11_goesOut_1 21 rfl rfl)
theorem dX11_goesOut_46 : decode cX11_goesOut 46 = .ok (.iadd, 1) := dk_96 (dk_at dksX11_goesOut_1 22 rfl rfl)
theorem dX11_goesOut_47 : decode cX11_goesOut 47 = .ok (.iload_n 1, 1) := dk_27 (dk_at dksX11_goesOut_1 23 rfl rfl)
theorem dX11_goesOut_48 : decode cX11_goesOut 48 = .ok (.iastore, 1) := dk_79 (dk_at dksX11_goesOut_2 0 rfl rfl)
theorem dX11_goesOut_49 : decode cX11_goesOut 49 = .ok (.aload_n 0, 1) := dk_42 (dk_at dksX11_goesOut_2 1 rfl rfl)
theorem dX11_goesOut_50 : decode cX11_goesOut 50 = .ok (.getfield 111, 3) := dk_180 0 111 (dk_at dksX11_goesOut_2 2 rfl rfl)
theorem dX11_goesOut_53 : decode cX11_goesOut 53 = .ok (.iconst 4, 1) := dk_7 (dk_at dksX11_goesOut_2 5 rfl rfl)
theorem dX11_goesOut_54 : decode cX11_goesOut 54 = .ok (.dup2, 1) := dk_92 (dk_at dksX11_goesOut_2 6 rfl rfl)
theorem dX11_goesOut_55 : decode cX11_goesOut 55 = .ok (.iaload, 1) := dk_46 (dk_at dksX11_goesOut_2 7 rfl rfl)
theorem dX11_goesOut_56 : decode cX11_goesOut 56 = .ok (.iconst 1, 1) := dk_4 (dk_at dksX11_goesOut_2 8 rfl rfl)
theorem dX11_goesOut_57 : decode cX11_goesOut 57 = .ok (.iadd, 1) := dk_96 (dk_at dksX11_goesOut_2 9 rfl rfl)
theorem dX11_goesOut_58 : decode cX11_goesOut 58 = .ok (.iastore, 1) := dk_79 (dk_at dksX11_goesOut_2 10 rfl rfl)
theorem dX11_goesOut_59 : decode cX11_goesOut 59 = .ok (.aload_n 0, 1) := dk_42 (dk_at dksX11_goesOut_2 11 rfl rfl)
theorem dX11_goesOut_60 : decode cX11_goesOut 60 = .ok (.getfield 111, 3) := dk_180 0 111 (dk_at dksX11_goesOut_2 12 rfl rfl)
theorem dX11_goesOut_63 : decode cX11_goesOut 63 = .ok (.bipush 6, 2) := dk_16 6 (dk_at dksX11_goesOut_2 15 rfl rfl)
theorem dX11_goesOut_65 : decode cX11_goesOut 65 = .ok (.dup2, 1) := dk_92 (dk_at dksX11_goesOut_2 17 rfl rfl)
theorem dX11_goesOut_66 : decode cX11_goesOut 66 = .ok (.iaload, 1) := dk_46 (dk_at dksX11_goesOut_2 18 rfl rfl)
theorem dX11_goesOut_67 : decode cX11_goesOut 67 = .ok (.iconst 1, 1) := dk_4 (dk_at dksX11_goesOut_2 19 rfl rfl)
theorem dX11_goesOut_68 : decode cX11_goesOut 68 = .ok (.iadd, 1) := dk_96 (dk_at dksX11_goesOut_2 20 rfl rfl)
theorem dX11_goesOut_69 : decode cX11_goesOut 69 = .ok (.iastore, 1) := dk_79 (dk_at dksX11_goesOut_2 21 rfl rfl)
theorem dX11_goesOut_70 : decode cX11_goesOut 70 = .ok (.return_, 1) := dk_177 (dk_at dksX11_goesOut_2 22 rfl rfl)
abbrev cX11_frameGoes : ByteArray := prog_26_method_45_code
def yX11_frameGoes : MethodName := ⟨RX11, "frameGoes", "(III)V"⟩
def dkwX11_frameGoes_7 : List UInt8 := [46, 182, 1, 164, 132, 7, 1, 167, 255, 233, 177]
abbrev dktX11_frameGoes_7 : List UInt8 := dkwX11_frameGoes_7 ++ []
def dkwX11_frameGoes_6 : List UInt8 := [21, 6, 182, 1, 164, 3, 54, 7, 21, 7, 42, 180, 1, 155, 162, 0, 20, 42, 42, 180, 0, 114, 21, 7]
abbrev dktX11_frameGoes_6 : List UInt8 := dkwX11_frameGoes_6 ++ dktX11_frameGoes_7
def dkwX11_frameGoes_5 : List UInt8 := [162, 0, 23, 21, 6, 42, 180, 0, 114, 21, 7, 46, 184, 1, 128, 54, 6, 132, 7, 1, 167, 255, 230, 42]
abbrev dktX11_frameGoes_5 : List UInt8 := dkwX11_frameGoes_5 ++ dktX11_frameGoes_6
def dkwX11_frameGoes_4 : List UInt8 := [182, 1, 158, 132, 6, 1, 167, 255, 234, 16, 7, 54, 6, 3, 54, 7, 21, 7, 42, 180, 1, 155]
abbrev dktX11_frameGoes_4 : List UInt8 := dkwX11_frameGoes_4 ++ dktX11_frameGoes_5
def dkwX11_frameGoes_3 : List UInt8 := [182, 1, 158, 3, 54, 6, 21, 6, 29, 162, 0, 22, 42, 42, 27, 28, 21, 6, 96, 182, 1, 161]
abbrev dktX11_frameGoes_3 : List UInt8 := dkwX11_frameGoes_3 ++ dktX11_frameGoes_4
def dkwX11_frameGoes_2 : List UInt8 := [21, 5, 182, 1, 158, 42, 29, 182, 1, 158, 42, 42, 180, 0, 111, 16, 7, 46, 17, 0, 255, 126]
abbrev dktX11_frameGoes_2 : List UInt8 := dkwX11_frameGoes_2 ++ dktX11_frameGoes_3
def dkwX11_frameGoes_1 : List UInt8 := [167, 0, 16, 28, 29, 96, 21, 4, 160, 0, 7, 7, 167, 0, 4, 6, 54, 5, 42, 3, 181, 1, 155, 42]
abbrev dktX11_frameGoes_1 : List UInt8 := dkwX11_frameGoes_1 ++ dktX11_frameGoes_2
def dkwX11_frameGoes_0 : List UInt8 := [42, 27, 182, 1, 152, 54, 4, 29, 21, 4, 160, 0, 7, 4, 167, 0, 24, 28, 154, 0, 7, 5]
abbrev dktX11_frameGoes_0 : List UInt8 := dkwX11_frameGoes_0 ++ dktX11_frameGoes_1
theorem dksX11_frameGoes_0 : cX11_frameGoes.data.toList.drop 0 = dktX11_frameGoes_0 := by decide +kernel
theorem dksX11_frameGoes_1 : cX11_frameGoes.data.toList.drop 22 = dktX11_frameGoes_1 := dk_seg dksX11_frameGoes_0 22 rfl rfl
theorem dksX11_frameGoes_2 : cX11_frameGoes.data.toList.drop 46 = dktX11_frameGoes_2 := dk_seg dksX11_frameGoes_1 24 rfl rfl
theorem dksX11_frameGoes_3 : cX11_frameGoes.data.toList.drop 68 = dktX11_frameGoes_3 := dk_seg dksX11_frameGoes_2 22 rfl rfl
theorem dksX11_frameGoes_4 : cX11_frameGoes.data.toList.drop 90 = dktX11_frameGoes_4 := dk_seg dksX11_frameGoes_3 22 rfl rfl
theorem dksX11_frameGoes_5 : cX11_frameGoes.data.toList.drop 112 = dktX11_frameGoes_5 := dk_seg dksX11_frameGoes_4 22 rfl rfl
theorem dksX11_frameGoes_6 : cX11_frameGoes.data.toList.drop 136 = dktX11_frameGoes_6 := dk_seg dksX11_frameGoes_5 24 rfl rfl
theorem dksX11_frameGoes_7 : cX11_frameGoes.data.toList.drop 160 = dktX11_frameGoes_7 := dk_seg dksX11_frameGoes_6 24 rfl rfl
theorem dX11_frameGoes_0 : decode cX11_frameGoes 0 = .ok (.aload_n 0, 1) := dk_42 (dk_at dksX11_frameGoes_0 0 rfl rfl)
theorem dX11_frameGoes_1 : decode cX11_frameGoes 1 = .ok (.iload_n 1, 1) := dk_27 (dk_at dksX11_frameGoes_0 1 rfl rfl)
theorem dX11_frameGoes_2 : decode cX11_frameGoes 2 = .ok (.invokevirtual 408, 3) := dk_182 1 152 (dk_at dksX11_frameGoes_0 2 rfl rfl)
theorem dX11_frameGoes_5 : decode cX11_frameGoes 5 = .ok (.istore 4, 2) := dk_54 4 (dk_at dksX11_frameGoes_0 5 rfl rfl)
theorem dX11_frameGoes_7 : decode cX11_frameGoes 7 = .ok (.iload_n 3, 1) := dk_29 (dk_at dksX11_frameGoes_0 7 rfl rfl)
theorem dX11_frameGoes_8 : decode cX11_frameGoes 8 = .ok (.iload 4, 2) := dk_21 4 (dk_at dksX11_frameGoes_0 8 rfl rfl)
theorem dX11_frameGoes_10 : decode cX11_frameGoes 10 = .ok (.if_icmp .ne 7, 3) := dk_160 0 7 (dk_at dksX11_frameGoes_0 10 rfl rfl)
theorem dX11_frameGoes_13 : decode cX11_frameGoes 13 = .ok (.iconst 1, 1) := dk_4 (dk_at dksX11_frameGoes_0 13 rfl rfl)
theorem dX11_frameGoes_14 : decode cX11_frameGoes 14 = .ok (.goto 24, 3) := dk_167 0 24 (dk_at dksX11_frameGoes_0 14 rfl rfl)
theorem dX11_frameGoes_17 : decode cX11_frameGoes 17 = .ok (.iload_n 2, 1) := dk_28 (dk_at dksX11_frameGoes_0 17 rfl rfl)
theorem dX11_frameGoes_18 : decode cX11_frameGoes 18 = .ok (.ifCond .ne 7, 3) := dk_154 0 7 (dk_at dksX11_frameGoes_0 18 rfl rfl)
theorem dX11_frameGoes_21 : decode cX11_frameGoes 21 = .ok (.iconst 2, 1) := dk_5 (dk_at dksX11_frameGoes_0 21 rfl rfl)
theorem dX11_frameGoes_22 : decode cX11_frameGoes 22 = .ok (.goto 16, 3) := dk_167 0 16 (dk_at dksX11_frameGoes_1 0 rfl rfl)
theorem dX11_frameGoes_25 : decode cX11_frameGoes 25 = .ok (.iload_n 2, 1) := dk_28 (dk_at dksX11_frameGoes_1 3 rfl rfl)
theorem dX11_frameGoes_26 : decode cX11_frameGoes 26 = .ok (.iload_n 3, 1) := dk_29 (dk_at dksX11_frameGoes_1 4 rfl rfl)
theorem dX11_frameGoes_27 : decode cX11_frameGoes 27 = .ok (.iadd, 1) := dk_96 (dk_at dksX11_frameGoes_1 5 rfl rfl)
theorem dX11_frameGoes_28 : decode cX11_frameGoes 28 = .ok (.iload 4, 2) := dk_21 4 (dk_at dksX11_frameGoes_1 6 rfl rfl)
theorem dX11_frameGoes_30 : decode cX11_frameGoes 30 = .ok (.if_icmp .ne 7, 3) := dk_160 0 7 (dk_at dksX11_frameGoes_1 8 rfl rfl)
theorem dX11_frameGoes_33 : decode cX11_frameGoes 33 = .ok (.iconst 4, 1) := dk_7 (dk_at dksX11_frameGoes_1 11 rfl rfl)
theorem dX11_frameGoes_34 : decode cX11_frameGoes 34 = .ok (.goto 4, 3) := dk_167 0 4 (dk_at dksX11_frameGoes_1 12 rfl rfl)
theorem dX11_frameGoes_37 : decode cX11_frameGoes 37 = .ok (.iconst 3, 1) := dk_6 (dk_at dksX11_frameGoes_1 15 rfl rfl)
theorem dX11_frameGoes_38 : decode cX11_frameGoes 38 = .ok (.istore 5, 2) := dk_54 5 (dk_at dksX11_frameGoes_1 16 rfl rfl)
theorem dX11_frameGoes_40 : decode cX11_frameGoes 40 = .ok (.aload_n 0, 1) := dk_42 (dk_at dksX11_frameGoes_1 18 rfl rfl)
theorem dX11_frameGoes_41 : decode cX11_frameGoes 41 = .ok (.iconst 0, 1) := dk_3 (dk_at dksX11_frameGoes_1 19 rfl rfl)
theorem dX11_frameGoes_42 : decode cX11_frameGoes 42 = .ok (.putfield 411, 3) := dk_181 1 155 (dk_at dksX11_frameGoes_1 20 rfl rfl)
theorem dX11_frameGoes_45 : decode cX11_frameGoes 45 = .ok (.aload_n 0, 1) := dk_42 (dk_at dksX11_frameGoes_1 23 rfl rfl)
theorem dX11_frameGoes_46 : decode cX11_frameGoes 46 = .ok (.iload 5, 2) := dk_21 5 (dk_at dksX11_frameGoes_2 0 rfl rfl)
theorem dX11_frameGoes_48 : decode cX11_frameGoes 48 = .ok (.invokevirtual 414, 3) := dk_182 1 158 (dk_at dksX11_frameGoes_2 2 rfl rfl)
theorem dX11_frameGoes_51 : decode cX11_frameGoes 51 = .ok (.aload_n 0, 1) := dk_42 (dk_at dksX11_frameGoes_2 5 rfl rfl)
theorem dX11_frameGoes_52 : decode cX11_frameGoes 52 = .ok (.iload_n 3, 1) := dk_29 (dk_at dksX11_frameGoes_2 6 rfl rfl)
theorem dX11_frameGoes_53 : decode cX11_frameGoes 53 = .ok (.invokevirtual 414, 3) := dk_182 1 158 (dk_at dksX11_frameGoes_2 7 rfl rfl)
theorem dX11_frameGoes_56 : decode cX11_frameGoes 56 = .ok (.aload_n 0, 1) := dk_42 (dk_at dksX11_frameGoes_2 10 rfl rfl)
theorem dX11_frameGoes_57 : decode cX11_frameGoes 57 = .ok (.aload_n 0, 1) := dk_42 (dk_at dksX11_frameGoes_2 11 rfl rfl)
theorem dX11_frameGoes_58 : decode cX11_frameGoes 58 = .ok (.getfield 111, 3) := dk_180 0 111 (dk_at dksX11_frameGoes_2 12 rfl rfl)
theorem dX11_frameGoes_61 : decode cX11_frameGoes 61 = .ok (.bipush 7, 2) := dk_16 7 (dk_at dksX11_frameGoes_2 15 rfl rfl)
theorem dX11_frameGoes_63 : decode cX11_frameGoes 63 = .ok (.iaload, 1) := dk_46 (dk_at dksX11_frameGoes_2 17 rfl rfl)
theorem dX11_frameGoes_64 : decode cX11_frameGoes 64 = .ok (.sipush 255, 3) := dk_17 0 255 (dk_at dksX11_frameGoes_2 18 rfl rfl)
theorem dX11_frameGoes_67 : decode cX11_frameGoes 67 = .ok (.iand, 1) := dk_126 (dk_at dksX11_frameGoes_2 21 rfl rfl)
theorem dX11_frameGoes_68 : decode cX11_frameGoes 68 = .ok (.invokevirtual 414, 3) := dk_182 1 158 (dk_at dksX11_frameGoes_3 0 rfl rfl)
theorem dX11_frameGoes_71 : decode cX11_frameGoes 71 = .ok (.iconst 0, 1) := dk_3 (dk_at dksX11_frameGoes_3 3 rfl rfl)
theorem dX11_frameGoes_72 : decode cX11_frameGoes 72 = .ok (.istore 6, 2) := dk_54 6 (dk_at dksX11_frameGoes_3 4 rfl rfl)
theorem dX11_frameGoes_74 : decode cX11_frameGoes 74 = .ok (.iload 6, 2) := dk_21 6 (dk_at dksX11_frameGoes_3 6 rfl rfl)
theorem dX11_frameGoes_76 : decode cX11_frameGoes 76 = .ok (.iload_n 3, 1) := dk_29 (dk_at dksX11_frameGoes_3 8 rfl rfl)
theorem dX11_frameGoes_77 : decode cX11_frameGoes 77 = .ok (.if_icmp .ge 22, 3) := dk_162 0 22 (dk_at dksX11_frameGoes_3 9 rfl rfl)
theorem dX11_frameGoes_80 : decode cX11_frameGoes 80 = .ok (.aload_n 0, 1) := dk_42 (dk_at dksX11_frameGoes_3 12 rfl rfl)
theorem dX11_frameGoes_81 : decode cX11_frameGoes 81 = .ok (.aload_n 0, 1) := dk_42 (dk_at dksX11_frameGoes_3 13 rfl rfl)
theorem dX11_frameGoes_82 : decode cX11_frameGoes 82 = .ok (.iload_n 1, 1) := dk_27 (dk_at dksX11_frameGoes_3 14 rfl rfl)
theorem dX11_frameGoes_83 : decode cX11_frameGoes 83 = .ok (.iload_n 2, 1) := dk_28 (dk_at dksX11_frameGoes_3 15 rfl rfl)
theorem dX11_frameGoes_84 : decode cX11_frameGoes 84 = .ok (.iload 6, 2) := dk_21 6 (dk_at dksX11_frameGoes_3 16 rfl rfl)
theorem dX11_frameGoes_86 : decode cX11_frameGoes 86 = .ok (.iadd, 1) := dk_96 (dk_at dksX11_frameGoes_3 18 rfl rfl)
theorem dX11_frameGoes_87 : decode cX11_frameGoes 87 = .ok (.invokevirtual 417, 3) := dk_182 1 161 (dk_at dksX11_frameGoes_3 19 rfl rfl)
theorem dX11_frameGoes_90 : decode cX11_frameGoes 90 = .ok (.invokevirtual 414, 3) := dk_182 1 158 (dk_at dksX11_frameGoes_4 0 rfl rfl)
theorem dX11_frameGoes_93 : decode cX11_frameGoes 93 = .ok (.iinc 6 1, 3) := dk_132 6 1 (dk_at dksX11_frameGoes_4 3 rfl rfl)
theorem dX11_frameGoes_96 : decode cX11_frameGoes 96 = .ok (.goto (-22), 3) := dk_167 255 234 (dk_at dksX11_frameGoes_4 6 rfl rfl)
theorem dX11_frameGoes_99 : decode cX11_frameGoes 99 = .ok (.bipush 7, 2) := dk_16 7 (dk_at dksX11_frameGoes_4 9 rfl rfl)
theorem dX11_frameGoes_101 : decode cX11_frameGoes 101 = .ok (.istore 6, 2) := dk_54 6 (dk_at dksX11_frameGoes_4 11 rfl rfl)
theorem dX11_frameGoes_103 : decode cX11_frameGoes 103 = .ok (.iconst 0, 1) := dk_3 (dk_at dksX11_frameGoes_4 13 rfl rfl)
theorem dX11_frameGoes_104 : decode cX11_frameGoes 104 = .ok (.istore 7, 2) := dk_54 7 (dk_at dksX11_frameGoes_4 14 rfl rfl)
theorem dX11_frameGoes_106 : decode cX11_frameGoes 106 = .ok (.iload 7, 2) := dk_21 7 (dk_at dksX11_frameGoes_4 16 rfl rfl)
theorem dX11_frameGoes_108 : decode cX11_frameGoes 108 = .ok (.aload_n 0, 1) := dk_42 (dk_at dksX11_frameGoes_4 18 rfl rfl)
theorem dX11_frameGoes_109 : decode cX11_frameGoes 109 = .ok (.getfield 411, 3) := dk_180 1 155 (dk_at dksX11_frameGoes_4 19 rfl rfl)
theorem dX11_frameGoes_112 : decode cX11_frameGoes 112 = .ok (.if_icmp .ge 23, 3) := dk_162 0 23 (dk_at dksX11_frameGoes_5 0 rfl rfl)
theorem dX11_frameGoes_115 : decode cX11_frameGoes 115 = .ok (.iload 6, 2) := dk_21 6 (dk_at dksX11_frameGoes_5 3 rfl rfl)
theorem dX11_frameGoes_117 : decode cX11_frameGoes 117 = .ok (.aload_n 0, 1) := dk_42 (dk_at dksX11_frameGoes_5 5 rfl rfl)
theorem dX11_frameGoes_118 : decode cX11_frameGoes 118 = .ok (.getfield 114, 3) := dk_180 0 114 (dk_at dksX11_frameGoes_5 6 rfl rfl)
theorem dX11_frameGoes_121 : decode cX11_frameGoes 121 = .ok (.iload 7, 2) := dk_21 7 (dk_at dksX11_frameGoes_5 9 rfl rfl)
theorem dX11_frameGoes_123 : decode cX11_frameGoes 123 = .ok (.iaload, 1) := dk_46 (dk_at dksX11_frameGoes_5 11 rfl rfl)
theorem dX11_frameGoes_124 : decode cX11_frameGoes 124 = .ok (.invokestatic 384, 3) := dk_184 1 128 (dk_at dksX11_frameGoes_5 12 rfl rfl)
theorem dX11_frameGoes_127 : decode cX11_frameGoes 127 = .ok (.istore 6, 2) := dk_54 6 (dk_at dksX11_frameGoes_5 15 rfl rfl)
theorem dX11_frameGoes_129 : decode cX11_frameGoes 129 = .ok (.iinc 7 1, 3) := dk_132 7 1 (dk_at dksX11_frameGoes_5 17 rfl rfl)
theorem dX11_frameGoes_132 : decode cX11_frameGoes 132 = .ok (.goto (-26), 3) := dk_167 255 230 (dk_at dksX11_frameGoes_5 20 rfl rfl)
theorem dX11_frameGoes_135 : decode cX11_frameGoes 135 = .ok (.aload_n 0, 1) := dk_42 (dk_at dksX11_frameGoes_5 23 rfl rfl)
theorem dX11_frameGoes_136 : decode cX11_frameGoes 136 = .ok (.iload 6, 2) := dk_21 6 (dk_at dksX11_frameGoes_6 0 rfl rfl)
theorem dX11_frameGoes_138 : decode cX11_frameGoes 138 = .ok (.invokevirtual 420, 3) := dk_182 1 164 (dk_at dksX11_frameGoes_6 2 rfl rfl)
theorem dX11_frameGoes_141 : decode cX11_frameGoes 141 = .ok (.iconst 0, 1) := dk_3 (dk_at dksX11_frameGoes_6 5 rfl rfl)
theorem dX11_frameGoes_142 : decode cX11_frameGoes 142 = .ok (.istore 7, 2) := dk_54 7 (dk_at dksX11_frameGoes_6 6 rfl rfl)
theorem dX11_frameGoes_144 : decode cX11_frameGoes 144 = .ok (.iload 7, 2) := dk_21 7 (dk_at dksX11_frameGoes_6 8 rfl rfl)
theorem dX11_frameGoes_146 : decode cX11_frameGoes 146 = .ok (.aload_n 0, 1) := dk_42 (dk_at dksX11_frameGoes_6 10 rfl rfl)
theorem dX11_frameGoes_147 : decode cX11_frameGoes 147 = .ok (.getfield 411, 3) := dk_180 1 155 (dk_at dksX11_frameGoes_6 11 rfl rfl)
theorem dX11_frameGoes_150 : decode cX11_frameGoes 150 = .ok (.if_icmp .ge 20, 3) := dk_162 0 20 (dk_at dksX11_frameGoes_6 14 rfl rfl)
theorem dX11_frameGoes_153 : decode cX11_frameGoes 153 = .ok (.aload_n 0, 1) := dk_42 (dk_at dksX11_frameGoes_6 17 rfl rfl)
theorem dX11_frameGoes_154 : decode cX11_frameGoes 154 = .ok (.aload_n 0, 1) := dk_42 (dk_at dksX11_frameGoes_6 18 rfl rfl)
theorem dX11_frameGoes_155 : decode cX11_frameGoes 155 = .ok (.getfield 114, 3) := dk_180 0 114 (dk_at dksX11_frameGoes_6 19 rfl rfl)
theorem dX11_frameGoes_158 : decode cX11_frameGoes 158 = .ok (.iload 7, 2) := dk_21 7 (dk_at dksX11_frameGoes_6 22 rfl rfl)
theorem dX11_frameGoes_160 : decode cX11_frameGoes 160 = .ok (.iaload, 1) := dk_46 (dk_at dksX11_frameGoes_7 0 rfl rfl)
theorem dX11_frameGoes_161 : decode cX11_frameGoes 161 = .ok (.invokevirtual 420, 3) := dk_182 1 164 (dk_at dksX11_frameGoes_7 1 rfl rfl)
theorem dX11_frameGoes_164 : decode cX11_frameGoes 164 = .ok (.iinc 7 1, 3) := dk_132 7 1 (dk_at dksX11_frameGoes_7 4 rfl rfl)
theorem dX11_frameGoes_167 : decode cX11_frameGoes 167 = .ok (.goto (-23), 3) := dk_167 255 233 (dk_at dksX11_frameGoes_7 7 rfl rfl)
theorem dX11_frameGoes_170 : decode cX11_frameGoes 170 = .ok (.return_, 1) := dk_177 (dk_at dksX11_frameGoes_7 10 rfl rfl)
abbrev cX11_frames : ByteArray := prog_26_method_46_code
def yX11_frames : MethodName := ⟨RX11, "frames", "(I)V"⟩
def dkwX11_frames_0 : List UInt8 := [42, 180, 0, 114, 42, 180, 1, 155, 27, 79, 42, 89, 180, 1, 155, 4, 96, 181, 1, 155, 177]
abbrev dktX11_frames_0 : List UInt8 := dkwX11_frames_0 ++ []
theorem dksX11_frames_0 : cX11_frames.data.toList.drop 0 = dktX11_frames_0 := by decide +kernel
theorem dX11_frames_0 : decode cX11_frames 0 = .ok (.aload_n 0, 1) := dk_42 (dk_at dksX11_frames_0 0 rfl rfl)
theorem dX11_frames_1 : decode cX11_frames 1 = .ok (.getfield 114, 3) := dk_180 0 114 (dk_at dksX11_frames_0 1 rfl rfl)
theorem dX11_frames_4 : decode cX11_frames 4 = .ok (.aload_n 0, 1) := dk_42 (dk_at dksX11_frames_0 4 rfl rfl)
theorem dX11_frames_5 : decode cX11_frames 5 = .ok (.getfield 411, 3) := dk_180 1 155 (dk_at dksX11_frames_0 5 rfl rfl)
theorem dX11_frames_8 : decode cX11_frames 8 = .ok (.iload_n 1, 1) := dk_27 (dk_at dksX11_frames_0 8 rfl rfl)
theorem dX11_frames_9 : decode cX11_frames 9 = .ok (.iastore, 1) := dk_79 (dk_at dksX11_frames_0 9 rfl rfl)
theorem dX11_frames_10 : decode cX11_frames 10 = .ok (.aload_n 0, 1) := dk_42 (dk_at dksX11_frames_0 10 rfl rfl)
theorem dX11_frames_11 : decode cX11_frames 11 = .ok (.dup, 1) := dk_89 (dk_at dksX11_frames_0 11 rfl rfl)
theorem dX11_frames_12 : decode cX11_frames 12 = .ok (.getfield 411, 3) := dk_180 1 155 (dk_at dksX11_frames_0 12 rfl rfl)
theorem dX11_frames_15 : decode cX11_frames 15 = .ok (.iconst 1, 1) := dk_4 (dk_at dksX11_frames_0 15 rfl rfl)
theorem dX11_frames_16 : decode cX11_frames 16 = .ok (.iadd, 1) := dk_96 (dk_at dksX11_frames_0 16 rfl rfl)
theorem dX11_frames_17 : decode cX11_frames 17 = .ok (.putfield 411, 3) := dk_181 1 155 (dk_at dksX11_frames_0 17 rfl rfl)
theorem dX11_frames_20 : decode cX11_frames 20 = .ok (.return_, 1) := dk_177 (dk_at dksX11_frames_0 20 rfl rfl)
abbrev cX11_payloadAt : ByteArray := prog_26_method_32_code
def yX11_payloadAt : MethodName := ⟨RX11, "payloadAt", "(II)I"⟩
def dkwX11_payloadAt_2 : List UInt8 := [16, 7, 28, 6, 100, 104, 96, 17, 0, 255, 126, 172]
abbrev dktX11_payloadAt_2 : List UInt8 := dkwX11_payloadAt_2 ++ []
def dkwX11_payloadAt_1 : List UInt8 := [160, 0, 10, 29, 16, 8, 122, 167, 0, 28, 28, 5, 160, 0, 11, 29, 17, 0, 255, 126, 167, 0, 15, 29]
abbrev dktX11_payloadAt_1 : List UInt8 := dkwX11_payloadAt_1 ++ dktX11_payloadAt_2
def dkwX11_payloadAt_0 : List UInt8 := [42, 27, 4, 182, 1, 107, 62, 28, 154, 0, 12, 42, 27, 3, 182, 1, 107, 167, 0, 40, 28, 4]
abbrev dktX11_payloadAt_0 : List UInt8 := dkwX11_payloadAt_0 ++ dktX11_payloadAt_1
theorem dksX11_payloadAt_0 : cX11_payloadAt.data.toList.drop 0 = dktX11_payloadAt_0 := by decide +kernel
theorem dksX11_payloadAt_1 : cX11_payloadAt.data.toList.drop 22 = dktX11_payloadAt_1 := dk_seg dksX11_payloadAt_0 22 rfl rfl
theorem dksX11_payloadAt_2 : cX11_payloadAt.data.toList.drop 46 = dktX11_payloadAt_2 := dk_seg dksX11_payloadAt_1 24 rfl rfl
theorem dX11_payloadAt_0 : decode cX11_payloadAt 0 = .ok (.aload_n 0, 1) := dk_42 (dk_at dksX11_payloadAt_0 0 rfl rfl)
theorem dX11_payloadAt_1 : decode cX11_payloadAt 1 = .ok (.iload_n 1, 1) := dk_27 (dk_at dksX11_payloadAt_0 1 rfl rfl)
theorem dX11_payloadAt_2 : decode cX11_payloadAt 2 = .ok (.iconst 1, 1) := dk_4 (dk_at dksX11_payloadAt_0 2 rfl rfl)
theorem dX11_payloadAt_3 : decode cX11_payloadAt 3 = .ok (.invokevirtual 363, 3) := dk_182 1 107 (dk_at dksX11_payloadAt_0 3 rfl rfl)
theorem dX11_payloadAt_6 : decode cX11_payloadAt 6 = .ok (.istore_n 3, 1) := dk_62 (dk_at dksX11_payloadAt_0 6 rfl rfl)
theorem dX11_payloadAt_7 : decode cX11_payloadAt 7 = .ok (.iload_n 2, 1) := dk_28 (dk_at dksX11_payloadAt_0 7 rfl rfl)
theorem dX11_payloadAt_8 : decode cX11_payloadAt 8 = .ok (.ifCond .ne 12, 3) := dk_154 0 12 (dk_at dksX11_payloadAt_0 8 rfl rfl)
theorem dX11_payloadAt_11 : decode cX11_payloadAt 11 = .ok (.aload_n 0, 1) := dk_42 (dk_at dksX11_payloadAt_0 11 rfl rfl)
theorem dX11_payloadAt_12 : decode cX11_payloadAt 12 = .ok (.iload_n 1, 1) := dk_27 (dk_at dksX11_payloadAt_0 12 rfl rfl)
theorem dX11_payloadAt_13 : decode cX11_payloadAt 13 = .ok (.iconst 0, 1) := dk_3 (dk_at dksX11_payloadAt_0 13 rfl rfl)
theorem dX11_payloadAt_14 : decode cX11_payloadAt 14 = .ok (.invokevirtual 363, 3) := dk_182 1 107 (dk_at dksX11_payloadAt_0 14 rfl rfl)
theorem dX11_payloadAt_17 : decode cX11_payloadAt 17 = .ok (.goto 40, 3) := dk_167 0 40 (dk_at dksX11_payloadAt_0 17 rfl rfl)
theorem dX11_payloadAt_20 : decode cX11_payloadAt 20 = .ok (.iload_n 2, 1) := dk_28 (dk_at dksX11_payloadAt_0 20 rfl rfl)
theorem dX11_payloadAt_21 : decode cX11_payloadAt 21 = .ok (.iconst 1, 1) := dk_4 (dk_at dksX11_payloadAt_0 21 rfl rfl)
theorem dX11_payloadAt_22 : decode cX11_payloadAt 22 = .ok (.if_icmp .ne 10, 3) := dk_160 0 10 (dk_at dksX11_payloadAt_1 0 rfl rfl)
theorem dX11_payloadAt_25 : decode cX11_payloadAt 25 = .ok (.iload_n 3, 1) := dk_29 (dk_at dksX11_payloadAt_1 3 rfl rfl)
theorem dX11_payloadAt_26 : decode cX11_payloadAt 26 = .ok (.bipush 8, 2) := dk_16 8 (dk_at dksX11_payloadAt_1 4 rfl rfl)
theorem dX11_payloadAt_28 : decode cX11_payloadAt 28 = .ok (.ishr, 1) := dk_122 (dk_at dksX11_payloadAt_1 6 rfl rfl)
theorem dX11_payloadAt_29 : decode cX11_payloadAt 29 = .ok (.goto 28, 3) := dk_167 0 28 (dk_at dksX11_payloadAt_1 7 rfl rfl)
theorem dX11_payloadAt_32 : decode cX11_payloadAt 32 = .ok (.iload_n 2, 1) := dk_28 (dk_at dksX11_payloadAt_1 10 rfl rfl)
theorem dX11_payloadAt_33 : decode cX11_payloadAt 33 = .ok (.iconst 2, 1) := dk_5 (dk_at dksX11_payloadAt_1 11 rfl rfl)
theorem dX11_payloadAt_34 : decode cX11_payloadAt 34 = .ok (.if_icmp .ne 11, 3) := dk_160 0 11 (dk_at dksX11_payloadAt_1 12 rfl rfl)
theorem dX11_payloadAt_37 : decode cX11_payloadAt 37 = .ok (.iload_n 3, 1) := dk_29 (dk_at dksX11_payloadAt_1 15 rfl rfl)
theorem dX11_payloadAt_38 : decode cX11_payloadAt 38 = .ok (.sipush 255, 3) := dk_17 0 255 (dk_at dksX11_payloadAt_1 16 rfl rfl)
theorem dX11_payloadAt_41 : decode cX11_payloadAt 41 = .ok (.iand, 1) := dk_126 (dk_at dksX11_payloadAt_1 19 rfl rfl)
theorem dX11_payloadAt_42 : decode cX11_payloadAt 42 = .ok (.goto 15, 3) := dk_167 0 15 (dk_at dksX11_payloadAt_1 20 rfl rfl)
theorem dX11_payloadAt_45 : decode cX11_payloadAt 45 = .ok (.iload_n 3, 1) := dk_29 (dk_at dksX11_payloadAt_1 23 rfl rfl)
theorem dX11_payloadAt_46 : decode cX11_payloadAt 46 = .ok (.bipush 7, 2) := dk_16 7 (dk_at dksX11_payloadAt_2 0 rfl rfl)
theorem dX11_payloadAt_48 : decode cX11_payloadAt 48 = .ok (.iload_n 2, 1) := dk_28 (dk_at dksX11_payloadAt_2 2 rfl rfl)
theorem dX11_payloadAt_49 : decode cX11_payloadAt 49 = .ok (.iconst 3, 1) := dk_6 (dk_at dksX11_payloadAt_2 3 rfl rfl)
theorem dX11_payloadAt_50 : decode cX11_payloadAt 50 = .ok (.isub, 1) := dk_100 (dk_at dksX11_payloadAt_2 4 rfl rfl)
theorem dX11_payloadAt_51 : decode cX11_payloadAt 51 = .ok (.imul, 1) := dk_104 (dk_at dksX11_payloadAt_2 5 rfl rfl)
theorem dX11_payloadAt_52 : decode cX11_payloadAt 52 = .ok (.iadd, 1) := dk_96 (dk_at dksX11_payloadAt_2 6 rfl rfl)
theorem dX11_payloadAt_53 : decode cX11_payloadAt 53 = .ok (.sipush 255, 3) := dk_17 0 255 (dk_at dksX11_payloadAt_2 7 rfl rfl)
theorem dX11_payloadAt_56 : decode cX11_payloadAt 56 = .ok (.iand, 1) := dk_126 (dk_at dksX11_payloadAt_2 10 rfl rfl)
theorem dX11_payloadAt_57 : decode cX11_payloadAt 57 = .ok (.ireturn, 1) := dk_172 (dk_at dksX11_payloadAt_2 11 rfl rfl)
abbrev cX11_ticksFor : ByteArray := prog_26_method_51_code
def yX11_ticksFor : MethodName := ⟨RX11, "ticksFor", "()I"⟩
def dkwX11_ticksFor_2 : List UInt8 := [167, 0, 5, 31, 136, 172]
abbrev dktX11_ticksFor_2 : List UInt8 := dkwX11_ticksFor_2 ++ []
def dkwX11_ticksFor_1 : List UInt8 := [133, 97, 64, 31, 10, 148, 156, 0, 7, 4, 167, 0, 18, 31, 20, 1, 196, 148, 158, 0, 8, 16, 99]
abbrev dktX11_ticksFor_1 : List UInt8 := dkwX11_ticksFor_1 ++ dktX11_ticksFor_2
def dkwX11_ticksFor_0 : List UInt8 := [42, 4, 182, 1, 189, 153, 0, 11, 42, 4, 182, 1, 192, 167, 0, 13, 10, 42, 180, 1, 183, 16, 16, 108]
abbrev dktX11_ticksFor_0 : List UInt8 := dkwX11_ticksFor_0 ++ dktX11_ticksFor_1
theorem dksX11_ticksFor_0 : cX11_ticksFor.data.toList.drop 0 = dktX11_ticksFor_0 := by decide +kernel
theorem dksX11_ticksFor_1 : cX11_ticksFor.data.toList.drop 24 = dktX11_ticksFor_1 := dk_seg dksX11_ticksFor_0 24 rfl rfl
theorem dksX11_ticksFor_2 : cX11_ticksFor.data.toList.drop 47 = dktX11_ticksFor_2 := dk_seg dksX11_ticksFor_1 23 rfl rfl
theorem dX11_ticksFor_0 : decode cX11_ticksFor 0 = .ok (.aload_n 0, 1) := dk_42 (dk_at dksX11_ticksFor_0 0 rfl rfl)
theorem dX11_ticksFor_1 : decode cX11_ticksFor 1 = .ok (.iconst 1, 1) := dk_4 (dk_at dksX11_ticksFor_0 1 rfl rfl)
theorem dX11_ticksFor_2 : decode cX11_ticksFor 2 = .ok (.invokevirtual 445, 3) := dk_182 1 189 (dk_at dksX11_ticksFor_0 2 rfl rfl)
theorem dX11_ticksFor_5 : decode cX11_ticksFor 5 = .ok (.ifCond .eq 11, 3) := dk_153 0 11 (dk_at dksX11_ticksFor_0 5 rfl rfl)
theorem dX11_ticksFor_8 : decode cX11_ticksFor 8 = .ok (.aload_n 0, 1) := dk_42 (dk_at dksX11_ticksFor_0 8 rfl rfl)
theorem dX11_ticksFor_9 : decode cX11_ticksFor 9 = .ok (.iconst 1, 1) := dk_4 (dk_at dksX11_ticksFor_0 9 rfl rfl)
theorem dX11_ticksFor_10 : decode cX11_ticksFor 10 = .ok (.invokevirtual 448, 3) := dk_182 1 192 (dk_at dksX11_ticksFor_0 10 rfl rfl)
theorem dX11_ticksFor_13 : decode cX11_ticksFor 13 = .ok (.goto 13, 3) := dk_167 0 13 (dk_at dksX11_ticksFor_0 13 rfl rfl)
theorem dX11_ticksFor_16 : decode cX11_ticksFor 16 = .ok (.lconst 1, 1) := dk_10 (dk_at dksX11_ticksFor_0 16 rfl rfl)
theorem dX11_ticksFor_17 : decode cX11_ticksFor 17 = .ok (.aload_n 0, 1) := dk_42 (dk_at dksX11_ticksFor_0 17 rfl rfl)
theorem dX11_ticksFor_18 : decode cX11_ticksFor 18 = .ok (.getfield 439, 3) := dk_180 1 183 (dk_at dksX11_ticksFor_0 18 rfl rfl)
theorem dX11_ticksFor_21 : decode cX11_ticksFor 21 = .ok (.bipush 16, 2) := dk_16 16 (dk_at dksX11_ticksFor_0 21 rfl rfl)
theorem dX11_ticksFor_23 : decode cX11_ticksFor 23 = .ok (.idiv, 1) := dk_108 (dk_at dksX11_ticksFor_0 23 rfl rfl)
theorem dX11_ticksFor_24 : decode cX11_ticksFor 24 = .ok (.i2l, 1) := dk_133 (dk_at dksX11_ticksFor_1 0 rfl rfl)
theorem dX11_ticksFor_25 : decode cX11_ticksFor 25 = .ok (.ladd, 1) := dk_97 (dk_at dksX11_ticksFor_1 1 rfl rfl)
theorem dX11_ticksFor_26 : decode cX11_ticksFor 26 = .ok (.lstore_n 1, 1) := dk_64 (dk_at dksX11_ticksFor_1 2 rfl rfl)
theorem dX11_ticksFor_27 : decode cX11_ticksFor 27 = .ok (.lload_n 1, 1) := dk_31 (dk_at dksX11_ticksFor_1 3 rfl rfl)
theorem dX11_ticksFor_28 : decode cX11_ticksFor 28 = .ok (.lconst 1, 1) := dk_10 (dk_at dksX11_ticksFor_1 4 rfl rfl)
theorem dX11_ticksFor_29 : decode cX11_ticksFor 29 = .ok (.lcmp, 1) := dk_148 (dk_at dksX11_ticksFor_1 5 rfl rfl)
theorem dX11_ticksFor_30 : decode cX11_ticksFor 30 = .ok (.ifCond .ge 7, 3) := dk_156 0 7 (dk_at dksX11_ticksFor_1 6 rfl rfl)
theorem dX11_ticksFor_33 : decode cX11_ticksFor 33 = .ok (.iconst 1, 1) := dk_4 (dk_at dksX11_ticksFor_1 9 rfl rfl)
theorem dX11_ticksFor_34 : decode cX11_ticksFor 34 = .ok (.goto 18, 3) := dk_167 0 18 (dk_at dksX11_ticksFor_1 10 rfl rfl)
theorem dX11_ticksFor_37 : decode cX11_ticksFor 37 = .ok (.lload_n 1, 1) := dk_31 (dk_at dksX11_ticksFor_1 13 rfl rfl)
theorem dX11_ticksFor_38 : decode cX11_ticksFor 38 = .ok (.ldc2_w 452, 3) := dk_20 1 196 (dk_at dksX11_ticksFor_1 14 rfl rfl)
theorem dX11_ticksFor_41 : decode cX11_ticksFor 41 = .ok (.lcmp, 1) := dk_148 (dk_at dksX11_ticksFor_1 17 rfl rfl)
theorem dX11_ticksFor_42 : decode cX11_ticksFor 42 = .ok (.ifCond .le 8, 3) := dk_158 0 8 (dk_at dksX11_ticksFor_1 18 rfl rfl)
theorem dX11_ticksFor_45 : decode cX11_ticksFor 45 = .ok (.bipush 99, 2) := dk_16 99 (dk_at dksX11_ticksFor_1 21 rfl rfl)
theorem dX11_ticksFor_47 : decode cX11_ticksFor 47 = .ok (.goto 5, 3) := dk_167 0 5 (dk_at dksX11_ticksFor_2 0 rfl rfl)
theorem dX11_ticksFor_50 : decode cX11_ticksFor 50 = .ok (.lload_n 1, 1) := dk_31 (dk_at dksX11_ticksFor_2 3 rfl rfl)
theorem dX11_ticksFor_51 : decode cX11_ticksFor 51 = .ok (.l2i, 1) := dk_136 (dk_at dksX11_ticksFor_2 4 rfl rfl)
theorem dX11_ticksFor_52 : decode cX11_ticksFor 52 = .ok (.ireturn, 1) := dk_172 (dk_at dksX11_ticksFor_2 5 rfl rfl)
abbrev cX11_takesBack : ByteArray := prog_26_method_60_code
def yX11_takesBack : MethodName := ⟨RX11, "takesBack", "()V"⟩
def dkwX11_takesBack_0 : List UInt8 := [42, 182, 1, 235, 42, 3, 181, 1, 211, 177]
abbrev dktX11_takesBack_0 : List UInt8 := dkwX11_takesBack_0 ++ []
theorem dksX11_takesBack_0 : cX11_takesBack.data.toList.drop 0 = dktX11_takesBack_0 := by decide +kernel
theorem dX11_takesBack_0 : decode cX11_takesBack 0 = .ok (.aload_n 0, 1) := dk_42 (dk_at dksX11_takesBack_0 0 rfl rfl)
theorem dX11_takesBack_1 : decode cX11_takesBack 1 = .ok (.invokevirtual 491, 3) := dk_182 1 235 (dk_at dksX11_takesBack_0 1 rfl rfl)
theorem dX11_takesBack_4 : decode cX11_takesBack 4 = .ok (.aload_n 0, 1) := dk_42 (dk_at dksX11_takesBack_0 4 rfl rfl)
theorem dX11_takesBack_5 : decode cX11_takesBack 5 = .ok (.iconst 0, 1) := dk_3 (dk_at dksX11_takesBack_0 5 rfl rfl)
theorem dX11_takesBack_6 : decode cX11_takesBack 6 = .ok (.putfield 467, 3) := dk_181 1 211 (dk_at dksX11_takesBack_0 6 rfl rfl)
theorem dX11_takesBack_9 : decode cX11_takesBack 9 = .ok (.return_, 1) := dk_177 (dk_at dksX11_takesBack_0 9 rfl rfl)
abbrev cX11_triesAnew : ByteArray := prog_26_method_59_code
def yX11_triesAnew : MethodName := ⟨RX11, "triesAnew", "()V"⟩
def dkwX11_triesAnew_1 : List UInt8 := [167, 255, 234, 177]
abbrev dktX11_triesAnew_1 : List UInt8 := dkwX11_triesAnew_1 ++ []
def dkwX11_triesAnew_0 : List UInt8 := [3, 60, 27, 17, 8, 196, 162, 0, 21, 42, 180, 0, 111, 27, 42, 180, 0, 123, 27, 46, 79, 132, 1, 1]
abbrev dktX11_triesAnew_0 : List UInt8 := dkwX11_triesAnew_0 ++ dktX11_triesAnew_1
theorem dksX11_triesAnew_0 : cX11_triesAnew.data.toList.drop 0 = dktX11_triesAnew_0 := by decide +kernel
theorem dksX11_triesAnew_1 : cX11_triesAnew.data.toList.drop 24 = dktX11_triesAnew_1 := dk_seg dksX11_triesAnew_0 24 rfl rfl
theorem dX11_triesAnew_0 : decode cX11_triesAnew 0 = .ok (.iconst 0, 1) := dk_3 (dk_at dksX11_triesAnew_0 0 rfl rfl)
theorem dX11_triesAnew_1 : decode cX11_triesAnew 1 = .ok (.istore_n 1, 1) := dk_60 (dk_at dksX11_triesAnew_0 1 rfl rfl)
theorem dX11_triesAnew_2 : decode cX11_triesAnew 2 = .ok (.iload_n 1, 1) := dk_27 (dk_at dksX11_triesAnew_0 2 rfl rfl)
theorem dX11_triesAnew_3 : decode cX11_triesAnew 3 = .ok (.sipush 2244, 3) := dk_17 8 196 (dk_at dksX11_triesAnew_0 3 rfl rfl)
theorem dX11_triesAnew_6 : decode cX11_triesAnew 6 = .ok (.if_icmp .ge 21, 3) := dk_162 0 21 (dk_at dksX11_triesAnew_0 6 rfl rfl)
theorem dX11_triesAnew_9 : decode cX11_triesAnew 9 = .ok (.aload_n 0, 1) := dk_42 (dk_at dksX11_triesAnew_0 9 rfl rfl)
theorem dX11_triesAnew_10 : decode cX11_triesAnew 10 = .ok (.getfield 111, 3) := dk_180 0 111 (dk_at dksX11_triesAnew_0 10 rfl rfl)
theorem dX11_triesAnew_13 : decode cX11_triesAnew 13 = .ok (.iload_n 1, 1) := dk_27 (dk_at dksX11_triesAnew_0 13 rfl rfl)
theorem dX11_triesAnew_14 : decode cX11_triesAnew 14 = .ok (.aload_n 0, 1) := dk_42 (dk_at dksX11_triesAnew_0 14 rfl rfl)
theorem dX11_triesAnew_15 : decode cX11_triesAnew 15 = .ok (.getfield 123, 3) := dk_180 0 123 (dk_at dksX11_triesAnew_0 15 rfl rfl)
theorem dX11_triesAnew_18 : decode cX11_triesAnew 18 = .ok (.iload_n 1, 1) := dk_27 (dk_at dksX11_triesAnew_0 18 rfl rfl)
theorem dX11_triesAnew_19 : decode cX11_triesAnew 19 = .ok (.iaload, 1) := dk_46 (dk_at dksX11_triesAnew_0 19 rfl rfl)
theorem dX11_triesAnew_20 : decode cX11_triesAnew 20 = .ok (.iastore, 1) := dk_79 (dk_at dksX11_triesAnew_0 20 rfl rfl)
theorem dX11_triesAnew_21 : decode cX11_triesAnew 21 = .ok (.iinc 1 1, 3) := dk_132 1 1 (dk_at dksX11_triesAnew_0 21 rfl rfl)
theorem dX11_triesAnew_24 : decode cX11_triesAnew 24 = .ok (.goto (-22), 3) := dk_167 255 234 (dk_at dksX11_triesAnew_1 0 rfl rfl)
theorem dX11_triesAnew_27 : decode cX11_triesAnew 27 = .ok (.return_, 1) := dk_177 (dk_at dksX11_triesAnew_1 3 rfl rfl)
abbrev cX11_when : ByteArray := prog_26_method_92_code
def yX11_when : MethodName := ⟨RX11, "when", "(I)I"⟩
def dkwX11_when_1 : List UInt8 := [153, 0, 13, 42, 27, 4, 96, 182, 2, 88, 167, 0, 4, 2, 172]
abbrev dktX11_when_1 : List UInt8 := dkwX11_when_1 ++ []
def dkwX11_when_0 : List UInt8 := [42, 180, 1, 84, 153, 0, 31, 27, 133, 9, 42, 180, 0, 111, 4, 46, 4, 100, 133, 184, 1, 19]
abbrev dktX11_when_0 : List UInt8 := dkwX11_when_0 ++ dktX11_when_1
theorem dksX11_when_0 : cX11_when.data.toList.drop 0 = dktX11_when_0 := by decide +kernel
theorem dksX11_when_1 : cX11_when.data.toList.drop 22 = dktX11_when_1 := dk_seg dksX11_when_0 22 rfl rfl
theorem dX11_when_0 : decode cX11_when 0 = .ok (.aload_n 0, 1) := dk_42 (dk_at dksX11_when_0 0 rfl rfl)
theorem dX11_when_1 : decode cX11_when 1 = .ok (.getfield 340, 3) := dk_180 1 84 (dk_at dksX11_when_0 1 rfl rfl)
theorem dX11_when_4 : decode cX11_when 4 = .ok (.ifCond .eq 31, 3) := dk_153 0 31 (dk_at dksX11_when_0 4 rfl rfl)
theorem dX11_when_7 : decode cX11_when 7 = .ok (.iload_n 1, 1) := dk_27 (dk_at dksX11_when_0 7 rfl rfl)
theorem dX11_when_8 : decode cX11_when 8 = .ok (.i2l, 1) := dk_133 (dk_at dksX11_when_0 8 rfl rfl)
theorem dX11_when_9 : decode cX11_when 9 = .ok (.lconst 0, 1) := dk_9 (dk_at dksX11_when_0 9 rfl rfl)
theorem dX11_when_10 : decode cX11_when 10 = .ok (.aload_n 0, 1) := dk_42 (dk_at dksX11_when_0 10 rfl rfl)
theorem dX11_when_11 : decode cX11_when 11 = .ok (.getfield 111, 3) := dk_180 0 111 (dk_at dksX11_when_0 11 rfl rfl)
theorem dX11_when_14 : decode cX11_when 14 = .ok (.iconst 1, 1) := dk_4 (dk_at dksX11_when_0 14 rfl rfl)
theorem dX11_when_15 : decode cX11_when 15 = .ok (.iaload, 1) := dk_46 (dk_at dksX11_when_0 15 rfl rfl)
theorem dX11_when_16 : decode cX11_when 16 = .ok (.iconst 1, 1) := dk_4 (dk_at dksX11_when_0 16 rfl rfl)
theorem dX11_when_17 : decode cX11_when 17 = .ok (.isub, 1) := dk_100 (dk_at dksX11_when_0 17 rfl rfl)
theorem dX11_when_18 : decode cX11_when 18 = .ok (.i2l, 1) := dk_133 (dk_at dksX11_when_0 18 rfl rfl)
theorem dX11_when_19 : decode cX11_when 19 = .ok (.invokestatic 275, 3) := dk_184 1 19 (dk_at dksX11_when_0 19 rfl rfl)
theorem dX11_when_22 : decode cX11_when 22 = .ok (.ifCond .eq 13, 3) := dk_153 0 13 (dk_at dksX11_when_1 0 rfl rfl)
theorem dX11_when_25 : decode cX11_when 25 = .ok (.aload_n 0, 1) := dk_42 (dk_at dksX11_when_1 3 rfl rfl)
theorem dX11_when_26 : decode cX11_when 26 = .ok (.iload_n 1, 1) := dk_27 (dk_at dksX11_when_1 4 rfl rfl)
theorem dX11_when_27 : decode cX11_when 27 = .ok (.iconst 1, 1) := dk_4 (dk_at dksX11_when_1 5 rfl rfl)
theorem dX11_when_28 : decode cX11_when 28 = .ok (.iadd, 1) := dk_96 (dk_at dksX11_when_1 6 rfl rfl)
theorem dX11_when_29 : decode cX11_when 29 = .ok (.invokevirtual 600, 3) := dk_182 2 88 (dk_at dksX11_when_1 7 rfl rfl)
theorem dX11_when_32 : decode cX11_when 32 = .ok (.goto 4, 3) := dk_167 0 4 (dk_at dksX11_when_1 10 rfl rfl)
theorem dX11_when_35 : decode cX11_when 35 = .ok (.iconst (-1), 1) := dk_2 (dk_at dksX11_when_1 13 rfl rfl)
theorem dX11_when_36 : decode cX11_when 36 = .ok (.ireturn, 1) := dk_172 (dk_at dksX11_when_1 14 rfl rfl)
abbrev cX11_ticksTill : ByteArray := prog_26_method_91_code
def yX11_ticksTill : MethodName := ⟨RX11, "ticksTill", "(I)I"⟩
def dkwX11_ticksTill_3 : List UInt8 := [62, 42, 182, 2, 85, 29, 153, 0, 7, 28, 167, 0, 4, 2, 172]
abbrev dktX11_ticksTill_3 : List UInt8 := dkwX11_ticksTill_3 ++ []
def dkwX11_ticksTill_2 : List UInt8 := [182, 1, 232, 132, 2, 1, 167, 255, 221, 42, 180, 0, 111, 5, 46, 27, 161, 0, 7, 4, 167, 0, 4, 3]
abbrev dktX11_ticksTill_2 : List UInt8 := dkwX11_ticksTill_2 ++ dktX11_ticksTill_3
def dkwX11_ticksTill_1 : List UInt8 := [162, 0, 31, 28, 16, 100, 162, 0, 25, 42, 180, 0, 111, 3, 46, 17, 3, 231, 162, 0, 13, 42]
abbrev dktX11_ticksTill_1 : List UInt8 := dkwX11_ticksTill_1 ++ dktX11_ticksTill_2
def dkwX11_ticksTill_0 : List UInt8 := [3, 61, 42, 3, 181, 1, 217, 42, 3, 181, 1, 226, 42, 182, 2, 79, 42, 180, 0, 111, 5, 46, 27]
abbrev dktX11_ticksTill_0 : List UInt8 := dkwX11_ticksTill_0 ++ dktX11_ticksTill_1
theorem dksX11_ticksTill_0 : cX11_ticksTill.data.toList.drop 0 = dktX11_ticksTill_0 := by decide +kernel
theorem dksX11_ticksTill_1 : cX11_ticksTill.data.toList.drop 23 = dktX11_ticksTill_1 := dk_seg dksX11_ticksTill_0 23 rfl rfl
theorem dksX11_ticksTill_2 : cX11_ticksTill.data.toList.drop 45 = dktX11_ticksTill_2 := dk_seg dksX11_ticksTill_1 22 rfl rfl
theorem dksX11_ticksTill_3 : cX11_ticksTill.data.toList.drop 69 = dktX11_ticksTill_3 := dk_seg dksX11_ticksTill_2 24 rfl rfl
theorem dX11_ticksTill_0 : decode cX11_ticksTill 0 = .ok (.iconst 0, 1) := dk_3 (dk_at dksX11_ticksTill_0 0 rfl rfl)
theorem dX11_ticksTill_1 : decode cX11_ticksTill 1 = .ok (.istore_n 2, 1) := dk_61 (dk_at dksX11_ticksTill_0 1 rfl rfl)
theorem dX11_ticksTill_2 : decode cX11_ticksTill 2 = .ok (.aload_n 0, 1) := dk_42 (dk_at dksX11_ticksTill_0 2 rfl rfl)
theorem dX11_ticksTill_3 : decode cX11_ticksTill 3 = .ok (.iconst 0, 1) := dk_3 (dk_at dksX11_ticksTill_0 3 rfl rfl)
theorem dX11_ticksTill_4 : decode cX11_ticksTill 4 = .ok (.putfield 473, 3) := dk_181 1 217 (dk_at dksX11_ticksTill_0 4 rfl rfl)
theorem dX11_ticksTill_7 : decode cX11_ticksTill 7 = .ok (.aload_n 0, 1) := dk_42 (dk_at dksX11_ticksTill_0 7 rfl rfl)
theorem dX11_ticksTill_8 : decode cX11_ticksTill 8 = .ok (.iconst 0, 1) := dk_3 (dk_at dksX11_ticksTill_0 8 rfl rfl)
theorem dX11_ticksTill_9 : decode cX11_ticksTill 9 = .ok (.putfield 482, 3) := dk_181 1 226 (dk_at dksX11_ticksTill_0 9 rfl rfl)
theorem dX11_ticksTill_12 : decode cX11_ticksTill 12 = .ok (.aload_n 0, 1) := dk_42 (dk_at dksX11_ticksTill_0 12 rfl rfl)
theorem dX11_ticksTill_13 : decode cX11_ticksTill 13 = .ok (.invokevirtual 591, 3) := dk_182 2 79 (dk_at dksX11_ticksTill_0 13 rfl rfl)
theorem dX11_ticksTill_16 : decode cX11_ticksTill 16 = .ok (.aload_n 0, 1) := dk_42 (dk_at dksX11_ticksTill_0 16 rfl rfl)
theorem dX11_ticksTill_17 : decode cX11_ticksTill 17 = .ok (.getfield 111, 3) := dk_180 0 111 (dk_at dksX11_ticksTill_0 17 rfl rfl)
theorem dX11_ticksTill_20 : decode cX11_ticksTill 20 = .ok (.iconst 2, 1) := dk_5 (dk_at dksX11_ticksTill_0 20 rfl rfl)
theorem dX11_ticksTill_21 : decode cX11_ticksTill 21 = .ok (.iaload, 1) := dk_46 (dk_at dksX11_ticksTill_0 21 rfl rfl)
theorem dX11_ticksTill_22 : decode cX11_ticksTill 22 = .ok (.iload_n 1, 1) := dk_27 (dk_at dksX11_ticksTill_0 22 rfl rfl)
theorem dX11_ticksTill_23 : decode cX11_ticksTill 23 = .ok (.if_icmp .ge 31, 3) := dk_162 0 31 (dk_at dksX11_ticksTill_1 0 rfl rfl)
theorem dX11_ticksTill_26 : decode cX11_ticksTill 26 = .ok (.iload_n 2, 1) := dk_28 (dk_at dksX11_ticksTill_1 3 rfl rfl)
theorem dX11_ticksTill_27 : decode cX11_ticksTill 27 = .ok (.bipush 100, 2) := dk_16 100 (dk_at dksX11_ticksTill_1 4 rfl rfl)
theorem dX11_ticksTill_29 : decode cX11_ticksTill 29 = .ok (.if_icmp .ge 25, 3) := dk_162 0 25 (dk_at dksX11_ticksTill_1 6 rfl rfl)
theorem dX11_ticksTill_32 : decode cX11_ticksTill 32 = .ok (.aload_n 0, 1) := dk_42 (dk_at dksX11_ticksTill_1 9 rfl rfl)
theorem dX11_ticksTill_33 : decode cX11_ticksTill 33 = .ok (.getfield 111, 3) := dk_180 0 111 (dk_at dksX11_ticksTill_1 10 rfl rfl)
theorem dX11_ticksTill_36 : decode cX11_ticksTill 36 = .ok (.iconst 0, 1) := dk_3 (dk_at dksX11_ticksTill_1 13 rfl rfl)
theorem dX11_ticksTill_37 : decode cX11_ticksTill 37 = .ok (.iaload, 1) := dk_46 (dk_at dksX11_ticksTill_1 14 rfl rfl)
theorem dX11_ticksTill_38 : decode cX11_ticksTill 38 = .ok (.sipush 999, 3) := dk_17 3 231 (dk_at dksX11_ticksTill_1 15 rfl rfl)
theorem dX11_ticksTill_41 : decode cX11_ticksTill 41 = .ok (.if_icmp .ge 13, 3) := dk_162 0 13 (dk_at dksX11_ticksTill_1 18 rfl rfl)
theorem dX11_ticksTill_44 : decode cX11_ticksTill 44 = .ok (.aload_n 0, 1) := dk_42 (dk_at dksX11_ticksTill_1 21 rfl rfl)
theorem dX11_ticksTill_45 : decode cX11_ticksTill 45 = .ok (.invokevirtual 488, 3) := dk_182 1 232 (dk_at dksX11_ticksTill_2 0 rfl rfl)
theorem dX11_ticksTill_48 : decode cX11_ticksTill 48 = .ok (.iinc 2 1, 3) := dk_132 2 1 (dk_at dksX11_ticksTill_2 3 rfl rfl)
theorem dX11_ticksTill_51 : decode cX11_ticksTill 51 = .ok (.goto (-35), 3) := dk_167 255 221 (dk_at dksX11_ticksTill_2 6 rfl rfl)
theorem dX11_ticksTill_54 : decode cX11_ticksTill 54 = .ok (.aload_n 0, 1) := dk_42 (dk_at dksX11_ticksTill_2 9 rfl rfl)
theorem dX11_ticksTill_55 : decode cX11_ticksTill 55 = .ok (.getfield 111, 3) := dk_180 0 111 (dk_at dksX11_ticksTill_2 10 rfl rfl)
theorem dX11_ticksTill_58 : decode cX11_ticksTill 58 = .ok (.iconst 2, 1) := dk_5 (dk_at dksX11_ticksTill_2 13 rfl rfl)
theorem dX11_ticksTill_59 : decode cX11_ticksTill 59 = .ok (.iaload, 1) := dk_46 (dk_at dksX11_ticksTill_2 14 rfl rfl)
theorem dX11_ticksTill_60 : decode cX11_ticksTill 60 = .ok (.iload_n 1, 1) := dk_27 (dk_at dksX11_ticksTill_2 15 rfl rfl)
theorem dX11_ticksTill_61 : decode cX11_ticksTill 61 = .ok (.if_icmp .lt 7, 3) := dk_161 0 7 (dk_at dksX11_ticksTill_2 16 rfl rfl)
theorem dX11_ticksTill_64 : decode cX11_ticksTill 64 = .ok (.iconst 1, 1) := dk_4 (dk_at dksX11_ticksTill_2 19 rfl rfl)
theorem dX11_ticksTill_65 : decode cX11_ticksTill 65 = .ok (.goto 4, 3) := dk_167 0 4 (dk_at dksX11_ticksTill_2 20 rfl rfl)
theorem dX11_ticksTill_68 : decode cX11_ticksTill 68 = .ok (.iconst 0, 1) := dk_3 (dk_at dksX11_ticksTill_2 23 rfl rfl)
theorem dX11_ticksTill_69 : decode cX11_ticksTill 69 = .ok (.istore_n 3, 1) := dk_62 (dk_at dksX11_ticksTill_3 0 rfl rfl)
theorem dX11_ticksTill_70 : decode cX11_ticksTill 70 = .ok (.aload_n 0, 1) := dk_42 (dk_at dksX11_ticksTill_3 1 rfl rfl)
theorem dX11_ticksTill_71 : decode cX11_ticksTill 71 = .ok (.invokevirtual 597, 3) := dk_182 2 85 (dk_at dksX11_ticksTill_3 2 rfl rfl)
theorem dX11_ticksTill_74 : decode cX11_ticksTill 74 = .ok (.iload_n 3, 1) := dk_29 (dk_at dksX11_ticksTill_3 5 rfl rfl)
theorem dX11_ticksTill_75 : decode cX11_ticksTill 75 = .ok (.ifCond .eq 7, 3) := dk_153 0 7 (dk_at dksX11_ticksTill_3 6 rfl rfl)
theorem dX11_ticksTill_78 : decode cX11_ticksTill 78 = .ok (.iload_n 2, 1) := dk_28 (dk_at dksX11_ticksTill_3 9 rfl rfl)
theorem dX11_ticksTill_79 : decode cX11_ticksTill 79 = .ok (.goto 4, 3) := dk_167 0 4 (dk_at dksX11_ticksTill_3 10 rfl rfl)
theorem dX11_ticksTill_82 : decode cX11_ticksTill 82 = .ok (.iconst (-1), 1) := dk_2 (dk_at dksX11_ticksTill_3 13 rfl rfl)
theorem dX11_ticksTill_83 : decode cX11_ticksTill 83 = .ok (.ireturn, 1) := dk_172 (dk_at dksX11_ticksTill_3 14 rfl rfl)
abbrev cX11_rule : ByteArray := prog_26_method_93_code
def yX11_rule : MethodName := ⟨RX11, "rule", "(II)I"⟩
def dkwX11_rule_3 : List UInt8 := [154, 0, 7, 29, 167, 0, 7, 42, 180, 1, 226, 172]
abbrev dktX11_rule_3 : List UInt8 := dkwX11_rule_3 ++ []
def dkwX11_rule_2 : List UInt8 := [42, 42, 180, 0, 111, 4, 46, 182, 2, 88, 62, 42, 2, 181, 0, 120, 29, 2, 159, 0, 7, 28]
abbrev dktX11_rule_2 : List UInt8 := dkwX11_rule_2 ++ dktX11_rule_3
def dkwX11_rule_1 : List UInt8 := [184, 1, 19, 153, 0, 14, 42, 180, 0, 111, 16, 10, 46, 4, 160, 0, 5, 2, 172, 42, 27, 181, 0, 120]
abbrev dktX11_rule_1 : List UInt8 := dkwX11_rule_1 ++ dktX11_rule_2
def dkwX11_rule_0 : List UInt8 := [42, 180, 1, 84, 153, 0, 36, 27, 133, 10, 20, 2, 91, 184, 1, 19, 153, 0, 24, 28, 133, 9, 10]
abbrev dktX11_rule_0 : List UInt8 := dkwX11_rule_0 ++ dktX11_rule_1
theorem dksX11_rule_0 : cX11_rule.data.toList.drop 0 = dktX11_rule_0 := by decide +kernel
theorem dksX11_rule_1 : cX11_rule.data.toList.drop 23 = dktX11_rule_1 := dk_seg dksX11_rule_0 23 rfl rfl
theorem dksX11_rule_2 : cX11_rule.data.toList.drop 47 = dktX11_rule_2 := dk_seg dksX11_rule_1 24 rfl rfl
theorem dksX11_rule_3 : cX11_rule.data.toList.drop 69 = dktX11_rule_3 := dk_seg dksX11_rule_2 22 rfl rfl
theorem dX11_rule_0 : decode cX11_rule 0 = .ok (.aload_n 0, 1) := dk_42 (dk_at dksX11_rule_0 0 rfl rfl)
theorem dX11_rule_1 : decode cX11_rule 1 = .ok (.getfield 340, 3) := dk_180 1 84 (dk_at dksX11_rule_0 1 rfl rfl)
theorem dX11_rule_4 : decode cX11_rule 4 = .ok (.ifCond .eq 36, 3) := dk_153 0 36 (dk_at dksX11_rule_0 4 rfl rfl)
theorem dX11_rule_7 : decode cX11_rule 7 = .ok (.iload_n 1, 1) := dk_27 (dk_at dksX11_rule_0 7 rfl rfl)
theorem dX11_rule_8 : decode cX11_rule 8 = .ok (.i2l, 1) := dk_133 (dk_at dksX11_rule_0 8 rfl rfl)
theorem dX11_rule_9 : decode cX11_rule 9 = .ok (.lconst 1, 1) := dk_10 (dk_at dksX11_rule_0 9 rfl rfl)
theorem dX11_rule_10 : decode cX11_rule 10 = .ok (.ldc2_w 603, 3) := dk_20 2 91 (dk_at dksX11_rule_0 10 rfl rfl)
theorem dX11_rule_13 : decode cX11_rule 13 = .ok (.invokestatic 275, 3) := dk_184 1 19 (dk_at dksX11_rule_0 13 rfl rfl)
theorem dX11_rule_16 : decode cX11_rule 16 = .ok (.ifCond .eq 24, 3) := dk_153 0 24 (dk_at dksX11_rule_0 16 rfl rfl)
theorem dX11_rule_19 : decode cX11_rule 19 = .ok (.iload_n 2, 1) := dk_28 (dk_at dksX11_rule_0 19 rfl rfl)
theorem dX11_rule_20 : decode cX11_rule 20 = .ok (.i2l, 1) := dk_133 (dk_at dksX11_rule_0 20 rfl rfl)
theorem dX11_rule_21 : decode cX11_rule 21 = .ok (.lconst 0, 1) := dk_9 (dk_at dksX11_rule_0 21 rfl rfl)
theorem dX11_rule_22 : decode cX11_rule 22 = .ok (.lconst 1, 1) := dk_10 (dk_at dksX11_rule_0 22 rfl rfl)
theorem dX11_rule_23 : decode cX11_rule 23 = .ok (.invokestatic 275, 3) := dk_184 1 19 (dk_at dksX11_rule_1 0 rfl rfl)
theorem dX11_rule_26 : decode cX11_rule 26 = .ok (.ifCond .eq 14, 3) := dk_153 0 14 (dk_at dksX11_rule_1 3 rfl rfl)
theorem dX11_rule_29 : decode cX11_rule 29 = .ok (.aload_n 0, 1) := dk_42 (dk_at dksX11_rule_1 6 rfl rfl)
theorem dX11_rule_30 : decode cX11_rule 30 = .ok (.getfield 111, 3) := dk_180 0 111 (dk_at dksX11_rule_1 7 rfl rfl)
theorem dX11_rule_33 : decode cX11_rule 33 = .ok (.bipush 10, 2) := dk_16 10 (dk_at dksX11_rule_1 10 rfl rfl)
theorem dX11_rule_35 : decode cX11_rule 35 = .ok (.iaload, 1) := dk_46 (dk_at dksX11_rule_1 12 rfl rfl)
theorem dX11_rule_36 : decode cX11_rule 36 = .ok (.iconst 1, 1) := dk_4 (dk_at dksX11_rule_1 13 rfl rfl)
theorem dX11_rule_37 : decode cX11_rule 37 = .ok (.if_icmp .ne 5, 3) := dk_160 0 5 (dk_at dksX11_rule_1 14 rfl rfl)
theorem dX11_rule_40 : decode cX11_rule 40 = .ok (.iconst (-1), 1) := dk_2 (dk_at dksX11_rule_1 17 rfl rfl)
theorem dX11_rule_41 : decode cX11_rule 41 = .ok (.ireturn, 1) := dk_172 (dk_at dksX11_rule_1 18 rfl rfl)
theorem dX11_rule_42 : decode cX11_rule 42 = .ok (.aload_n 0, 1) := dk_42 (dk_at dksX11_rule_1 19 rfl rfl)
theorem dX11_rule_43 : decode cX11_rule 43 = .ok (.iload_n 1, 1) := dk_27 (dk_at dksX11_rule_1 20 rfl rfl)
theorem dX11_rule_44 : decode cX11_rule 44 = .ok (.putfield 120, 3) := dk_181 0 120 (dk_at dksX11_rule_1 21 rfl rfl)
theorem dX11_rule_47 : decode cX11_rule 47 = .ok (.aload_n 0, 1) := dk_42 (dk_at dksX11_rule_2 0 rfl rfl)
theorem dX11_rule_48 : decode cX11_rule 48 = .ok (.aload_n 0, 1) := dk_42 (dk_at dksX11_rule_2 1 rfl rfl)
theorem dX11_rule_49 : decode cX11_rule 49 = .ok (.getfield 111, 3) := dk_180 0 111 (dk_at dksX11_rule_2 2 rfl rfl)
theorem dX11_rule_52 : decode cX11_rule 52 = .ok (.iconst 1, 1) := dk_4 (dk_at dksX11_rule_2 5 rfl rfl)
theorem dX11_rule_53 : decode cX11_rule 53 = .ok (.iaload, 1) := dk_46 (dk_at dksX11_rule_2 6 rfl rfl)
theorem dX11_rule_54 : decode cX11_rule 54 = .ok (.invokevirtual 600, 3) := dk_182 2 88 (dk_at dksX11_rule_2 7 rfl rfl)
theorem dX11_rule_57 : decode cX11_rule 57 = .ok (.istore_n 3, 1) := dk_62 (dk_at dksX11_rule_2 10 rfl rfl)
theorem dX11_rule_58 : decode cX11_rule 58 = .ok (.aload_n 0, 1) := dk_42 (dk_at dksX11_rule_2 11 rfl rfl)
theorem dX11_rule_59 : decode cX11_rule 59 = .ok (.iconst (-1), 1) := dk_2 (dk_at dksX11_rule_2 12 rfl rfl)
theorem dX11_rule_60 : decode cX11_rule 60 = .ok (.putfield 120, 3) := dk_181 0 120 (dk_at dksX11_rule_2 13 rfl rfl)
theorem dX11_rule_63 : decode cX11_rule 63 = .ok (.iload_n 3, 1) := dk_29 (dk_at dksX11_rule_2 16 rfl rfl)
theorem dX11_rule_64 : decode cX11_rule 64 = .ok (.iconst (-1), 1) := dk_2 (dk_at dksX11_rule_2 17 rfl rfl)
theorem dX11_rule_65 : decode cX11_rule 65 = .ok (.if_icmp .eq 7, 3) := dk_159 0 7 (dk_at dksX11_rule_2 18 rfl rfl)
theorem dX11_rule_68 : decode cX11_rule 68 = .ok (.iload_n 2, 1) := dk_28 (dk_at dksX11_rule_2 21 rfl rfl)
theorem dX11_rule_69 : decode cX11_rule 69 = .ok (.ifCond .ne 7, 3) := dk_154 0 7 (dk_at dksX11_rule_3 0 rfl rfl)
theorem dX11_rule_72 : decode cX11_rule 72 = .ok (.iload_n 3, 1) := dk_29 (dk_at dksX11_rule_3 3 rfl rfl)
theorem dX11_rule_73 : decode cX11_rule 73 = .ok (.goto 7, 3) := dk_167 0 7 (dk_at dksX11_rule_3 4 rfl rfl)
theorem dX11_rule_76 : decode cX11_rule 76 = .ok (.aload_n 0, 1) := dk_42 (dk_at dksX11_rule_3 7 rfl rfl)
theorem dX11_rule_77 : decode cX11_rule 77 = .ok (.getfield 482, 3) := dk_180 1 226 (dk_at dksX11_rule_3 8 rfl rfl)
theorem dX11_rule_80 : decode cX11_rule 80 = .ok (.ireturn, 1) := dk_172 (dk_at dksX11_rule_3 11 rfl rfl)
abbrev cX11_best : ByteArray := prog_26_method_94_code
def yX11_best : MethodName := ⟨RX11, "best", "(I)I"⟩
def dkwX11_best_3 : List UInt8 := [154, 0, 7, 28, 167, 0, 4, 29, 172]
abbrev dktX11_best_3 : List UInt8 := dkwX11_best_3 ++ []
def dkwX11_best_2 : List UInt8 := [21, 5, 29, 161, 0, 6, 167, 0, 9, 21, 4, 61, 21, 5, 62, 132, 4, 1, 167, 255, 211, 27]
abbrev dktX11_best_2 : List UInt8 := dkwX11_best_2 ++ dktX11_best_3
def dkwX11_best_1 : List UInt8 := [163, 0, 44, 42, 21, 4, 4, 182, 2, 93, 54, 5, 21, 5, 2, 159, 0, 23, 28, 2, 159, 0, 12]
abbrev dktX11_best_1 : List UInt8 := dkwX11_best_1 ++ dktX11_best_2
def dkwX11_best_0 : List UInt8 := [27, 133, 9, 10, 184, 1, 19, 154, 0, 5, 2, 172, 2, 61, 2, 62, 4, 54, 4, 21, 4, 16, 8]
abbrev dktX11_best_0 : List UInt8 := dkwX11_best_0 ++ dktX11_best_1
theorem dksX11_best_0 : cX11_best.data.toList.drop 0 = dktX11_best_0 := by decide +kernel
theorem dksX11_best_1 : cX11_best.data.toList.drop 23 = dktX11_best_1 := dk_seg dksX11_best_0 23 rfl rfl
theorem dksX11_best_2 : cX11_best.data.toList.drop 46 = dktX11_best_2 := dk_seg dksX11_best_1 23 rfl rfl
theorem dksX11_best_3 : cX11_best.data.toList.drop 68 = dktX11_best_3 := dk_seg dksX11_best_2 22 rfl rfl
theorem dX11_best_0 : decode cX11_best 0 = .ok (.iload_n 1, 1) := dk_27 (dk_at dksX11_best_0 0 rfl rfl)
theorem dX11_best_1 : decode cX11_best 1 = .ok (.i2l, 1) := dk_133 (dk_at dksX11_best_0 1 rfl rfl)
theorem dX11_best_2 : decode cX11_best 2 = .ok (.lconst 0, 1) := dk_9 (dk_at dksX11_best_0 2 rfl rfl)
theorem dX11_best_3 : decode cX11_best 3 = .ok (.lconst 1, 1) := dk_10 (dk_at dksX11_best_0 3 rfl rfl)
theorem dX11_best_4 : decode cX11_best 4 = .ok (.invokestatic 275, 3) := dk_184 1 19 (dk_at dksX11_best_0 4 rfl rfl)
theorem dX11_best_7 : decode cX11_best 7 = .ok (.ifCond .ne 5, 3) := dk_154 0 5 (dk_at dksX11_best_0 7 rfl rfl)
theorem dX11_best_10 : decode cX11_best 10 = .ok (.iconst (-1), 1) := dk_2 (dk_at dksX11_best_0 10 rfl rfl)
theorem dX11_best_11 : decode cX11_best 11 = .ok (.ireturn, 1) := dk_172 (dk_at dksX11_best_0 11 rfl rfl)
theorem dX11_best_12 : decode cX11_best 12 = .ok (.iconst (-1), 1) := dk_2 (dk_at dksX11_best_0 12 rfl rfl)
theorem dX11_best_13 : decode cX11_best 13 = .ok (.istore_n 2, 1) := dk_61 (dk_at dksX11_best_0 13 rfl rfl)
theorem dX11_best_14 : decode cX11_best 14 = .ok (.iconst (-1), 1) := dk_2 (dk_at dksX11_best_0 14 rfl rfl)
theorem dX11_best_15 : decode cX11_best 15 = .ok (.istore_n 3, 1) := dk_62 (dk_at dksX11_best_0 15 rfl rfl)
theorem dX11_best_16 : decode cX11_best 16 = .ok (.iconst 1, 1) := dk_4 (dk_at dksX11_best_0 16 rfl rfl)
theorem dX11_best_17 : decode cX11_best 17 = .ok (.istore 4, 2) := dk_54 4 (dk_at dksX11_best_0 17 rfl rfl)
theorem dX11_best_19 : decode cX11_best 19 = .ok (.iload 4, 2) := dk_21 4 (dk_at dksX11_best_0 19 rfl rfl)
theorem dX11_best_21 : decode cX11_best 21 = .ok (.bipush 8, 2) := dk_16 8 (dk_at dksX11_best_0 21 rfl rfl)
theorem dX11_best_23 : decode cX11_best 23 = .ok (.if_icmp .gt 44, 3) := dk_163 0 44 (dk_at dksX11_best_1 0 rfl rfl)
theorem dX11_best_26 : decode cX11_best 26 = .ok (.aload_n 0, 1) := dk_42 (dk_at dksX11_best_1 3 rfl rfl)
theorem dX11_best_27 : decode cX11_best 27 = .ok (.iload 4, 2) := dk_21 4 (dk_at dksX11_best_1 4 rfl rfl)
theorem dX11_best_29 : decode cX11_best 29 = .ok (.iconst 1, 1) := dk_4 (dk_at dksX11_best_1 6 rfl rfl)
theorem dX11_best_30 : decode cX11_best 30 = .ok (.invokevirtual 605, 3) := dk_182 2 93 (dk_at dksX11_best_1 7 rfl rfl)
theorem dX11_best_33 : decode cX11_best 33 = .ok (.istore 5, 2) := dk_54 5 (dk_at dksX11_best_1 10 rfl rfl)
theorem dX11_best_35 : decode cX11_best 35 = .ok (.iload 5, 2) := dk_21 5 (dk_at dksX11_best_1 12 rfl rfl)
theorem dX11_best_37 : decode cX11_best 37 = .ok (.iconst (-1), 1) := dk_2 (dk_at dksX11_best_1 14 rfl rfl)
theorem dX11_best_38 : decode cX11_best 38 = .ok (.if_icmp .eq 23, 3) := dk_159 0 23 (dk_at dksX11_best_1 15 rfl rfl)
theorem dX11_best_41 : decode cX11_best 41 = .ok (.iload_n 2, 1) := dk_28 (dk_at dksX11_best_1 18 rfl rfl)
theorem dX11_best_42 : decode cX11_best 42 = .ok (.iconst (-1), 1) := dk_2 (dk_at dksX11_best_1 19 rfl rfl)
theorem dX11_best_43 : decode cX11_best 43 = .ok (.if_icmp .eq 12, 3) := dk_159 0 12 (dk_at dksX11_best_1 20 rfl rfl)
theorem dX11_best_46 : decode cX11_best 46 = .ok (.iload 5, 2) := dk_21 5 (dk_at dksX11_best_2 0 rfl rfl)
theorem dX11_best_48 : decode cX11_best 48 = .ok (.iload_n 3, 1) := dk_29 (dk_at dksX11_best_2 2 rfl rfl)
theorem dX11_best_49 : decode cX11_best 49 = .ok (.if_icmp .lt 6, 3) := dk_161 0 6 (dk_at dksX11_best_2 3 rfl rfl)
theorem dX11_best_52 : decode cX11_best 52 = .ok (.goto 9, 3) := dk_167 0 9 (dk_at dksX11_best_2 6 rfl rfl)
theorem dX11_best_55 : decode cX11_best 55 = .ok (.iload 4, 2) := dk_21 4 (dk_at dksX11_best_2 9 rfl rfl)
theorem dX11_best_57 : decode cX11_best 57 = .ok (.istore_n 2, 1) := dk_61 (dk_at dksX11_best_2 11 rfl rfl)
theorem dX11_best_58 : decode cX11_best 58 = .ok (.iload 5, 2) := dk_21 5 (dk_at dksX11_best_2 12 rfl rfl)
theorem dX11_best_60 : decode cX11_best 60 = .ok (.istore_n 3, 1) := dk_62 (dk_at dksX11_best_2 14 rfl rfl)
theorem dX11_best_61 : decode cX11_best 61 = .ok (.iinc 4 1, 3) := dk_132 4 1 (dk_at dksX11_best_2 15 rfl rfl)
theorem dX11_best_64 : decode cX11_best 64 = .ok (.goto (-45), 3) := dk_167 255 211 (dk_at dksX11_best_2 18 rfl rfl)
theorem dX11_best_67 : decode cX11_best 67 = .ok (.iload_n 1, 1) := dk_27 (dk_at dksX11_best_2 21 rfl rfl)
theorem dX11_best_68 : decode cX11_best 68 = .ok (.ifCond .ne 7, 3) := dk_154 0 7 (dk_at dksX11_best_3 0 rfl rfl)
theorem dX11_best_71 : decode cX11_best 71 = .ok (.iload_n 2, 1) := dk_28 (dk_at dksX11_best_3 3 rfl rfl)
theorem dX11_best_72 : decode cX11_best 72 = .ok (.goto 4, 3) := dk_167 0 4 (dk_at dksX11_best_3 4 rfl rfl)
theorem dX11_best_75 : decode cX11_best 75 = .ok (.iload_n 3, 1) := dk_29 (dk_at dksX11_best_3 7 rfl rfl)
theorem dX11_best_76 : decode cX11_best 76 = .ok (.ireturn, 1) := dk_172 (dk_at dksX11_best_3 8 rfl rfl)
abbrev cX11_room : ByteArray := prog_26_method_95_code
def yX11_room : MethodName := ⟨RX11, "room", "(I)I"⟩
def dkwX11_room_3 : List UInt8 := [27, 182, 2, 98, 153, 0, 9, 132, 2, 1, 167, 255, 245, 42, 182, 2, 85, 28, 172]
abbrev dktX11_room_3 : List UInt8 := dkwX11_room_3 ++ []
def dkwX11_room_2 : List UInt8 := [180, 0, 111, 16, 11, 46, 100, 79, 42, 180, 0, 111, 16, 13, 42, 180, 0, 111, 8, 46, 4, 96, 79, 42]
abbrev dktX11_room_2 : List UInt8 := dkwX11_room_2 ++ dktX11_room_3
def dkwX11_room_1 : List UInt8 := [16, 10, 46, 4, 160, 0, 5, 2, 172, 3, 61, 42, 182, 2, 79, 42, 180, 0, 111, 4, 92, 46, 42]
abbrev dktX11_room_1 : List UInt8 := dkwX11_room_1 ++ dktX11_room_2
def dkwX11_room_0 : List UInt8 := [42, 180, 1, 84, 153, 0, 26, 27, 133, 9, 20, 2, 96, 184, 1, 19, 153, 0, 14, 42, 180, 0, 111]
abbrev dktX11_room_0 : List UInt8 := dkwX11_room_0 ++ dktX11_room_1
theorem dksX11_room_0 : cX11_room.data.toList.drop 0 = dktX11_room_0 := by decide +kernel
theorem dksX11_room_1 : cX11_room.data.toList.drop 23 = dktX11_room_1 := dk_seg dksX11_room_0 23 rfl rfl
theorem dksX11_room_2 : cX11_room.data.toList.drop 46 = dktX11_room_2 := dk_seg dksX11_room_1 23 rfl rfl
theorem dksX11_room_3 : cX11_room.data.toList.drop 70 = dktX11_room_3 := dk_seg dksX11_room_2 24 rfl rfl
theorem dX11_room_0 : decode cX11_room 0 = .ok (.aload_n 0, 1) := dk_42 (dk_at dksX11_room_0 0 rfl rfl)
theorem dX11_room_1 : decode cX11_room 1 = .ok (.getfield 340, 3) := dk_180 1 84 (dk_at dksX11_room_0 1 rfl rfl)
theorem dX11_room_4 : decode cX11_room 4 = .ok (.ifCond .eq 26, 3) := dk_153 0 26 (dk_at dksX11_room_0 4 rfl rfl)
theorem dX11_room_7 : decode cX11_room 7 = .ok (.iload_n 1, 1) := dk_27 (dk_at dksX11_room_0 7 rfl rfl)
theorem dX11_room_8 : decode cX11_room 8 = .ok (.i2l, 1) := dk_133 (dk_at dksX11_room_0 8 rfl rfl)
theorem dX11_room_9 : decode cX11_room 9 = .ok (.lconst 0, 1) := dk_9 (dk_at dksX11_room_0 9 rfl rfl)
theorem dX11_room_10 : decode cX11_room 10 = .ok (.ldc2_w 608, 3) := dk_20 2 96 (dk_at dksX11_room_0 10 rfl rfl)
theorem dX11_room_13 : decode cX11_room 13 = .ok (.invokestatic 275, 3) := dk_184 1 19 (dk_at dksX11_room_0 13 rfl rfl)
theorem dX11_room_16 : decode cX11_room 16 = .ok (.ifCond .eq 14, 3) := dk_153 0 14 (dk_at dksX11_room_0 16 rfl rfl)
theorem dX11_room_19 : decode cX11_room 19 = .ok (.aload_n 0, 1) := dk_42 (dk_at dksX11_room_0 19 rfl rfl)
theorem dX11_room_20 : decode cX11_room 20 = .ok (.getfield 111, 3) := dk_180 0 111 (dk_at dksX11_room_0 20 rfl rfl)
theorem dX11_room_23 : decode cX11_room 23 = .ok (.bipush 10, 2) := dk_16 10 (dk_at dksX11_room_1 0 rfl rfl)
theorem dX11_room_25 : decode cX11_room 25 = .ok (.iaload, 1) := dk_46 (dk_at dksX11_room_1 2 rfl rfl)
theorem dX11_room_26 : decode cX11_room 26 = .ok (.iconst 1, 1) := dk_4 (dk_at dksX11_room_1 3 rfl rfl)
theorem dX11_room_27 : decode cX11_room 27 = .ok (.if_icmp .ne 5, 3) := dk_160 0 5 (dk_at dksX11_room_1 4 rfl rfl)
theorem dX11_room_30 : decode cX11_room 30 = .ok (.iconst (-1), 1) := dk_2 (dk_at dksX11_room_1 7 rfl rfl)
theorem dX11_room_31 : decode cX11_room 31 = .ok (.ireturn, 1) := dk_172 (dk_at dksX11_room_1 8 rfl rfl)
theorem dX11_room_32 : decode cX11_room 32 = .ok (.iconst 0, 1) := dk_3 (dk_at dksX11_room_1 9 rfl rfl)
theorem dX11_room_33 : decode cX11_room 33 = .ok (.istore_n 2, 1) := dk_61 (dk_at dksX11_room_1 10 rfl rfl)
theorem dX11_room_34 : decode cX11_room 34 = .ok (.aload_n 0, 1) := dk_42 (dk_at dksX11_room_1 11 rfl rfl)
theorem dX11_room_35 : decode cX11_room 35 = .ok (.invokevirtual 591, 3) := dk_182 2 79 (dk_at dksX11_room_1 12 rfl rfl)
theorem dX11_room_38 : decode cX11_room 38 = .ok (.aload_n 0, 1) := dk_42 (dk_at dksX11_room_1 15 rfl rfl)
theorem dX11_room_39 : decode cX11_room 39 = .ok (.getfield 111, 3) := dk_180 0 111 (dk_at dksX11_room_1 16 rfl rfl)
theorem dX11_room_42 : decode cX11_room 42 = .ok (.iconst 1, 1) := dk_4 (dk_at dksX11_room_1 19 rfl rfl)
theorem dX11_room_43 : decode cX11_room 43 = .ok (.dup2, 1) := dk_92 (dk_at dksX11_room_1 20 rfl rfl)
theorem dX11_room_44 : decode cX11_room 44 = .ok (.iaload, 1) := dk_46 (dk_at dksX11_room_1 21 rfl rfl)
theorem dX11_room_45 : decode cX11_room 45 = .ok (.aload_n 0, 1) := dk_42 (dk_at dksX11_room_1 22 rfl rfl)
theorem dX11_room_46 : decode cX11_room 46 = .ok (.getfield 111, 3) := dk_180 0 111 (dk_at dksX11_room_2 0 rfl rfl)
theorem dX11_room_49 : decode cX11_room 49 = .ok (.bipush 11, 2) := dk_16 11 (dk_at dksX11_room_2 3 rfl rfl)
theorem dX11_room_51 : decode cX11_room 51 = .ok (.iaload, 1) := dk_46 (dk_at dksX11_room_2 5 rfl rfl)
theorem dX11_room_52 : decode cX11_room 52 = .ok (.isub, 1) := dk_100 (dk_at dksX11_room_2 6 rfl rfl)
theorem dX11_room_53 : decode cX11_room 53 = .ok (.iastore, 1) := dk_79 (dk_at dksX11_room_2 7 rfl rfl)
theorem dX11_room_54 : decode cX11_room 54 = .ok (.aload_n 0, 1) := dk_42 (dk_at dksX11_room_2 8 rfl rfl)
theorem dX11_room_55 : decode cX11_room 55 = .ok (.getfield 111, 3) := dk_180 0 111 (dk_at dksX11_room_2 9 rfl rfl)
theorem dX11_room_58 : decode cX11_room 58 = .ok (.bipush 13, 2) := dk_16 13 (dk_at dksX11_room_2 12 rfl rfl)
theorem dX11_room_60 : decode cX11_room 60 = .ok (.aload_n 0, 1) := dk_42 (dk_at dksX11_room_2 14 rfl rfl)
theorem dX11_room_61 : decode cX11_room 61 = .ok (.getfield 111, 3) := dk_180 0 111 (dk_at dksX11_room_2 15 rfl rfl)
theorem dX11_room_64 : decode cX11_room 64 = .ok (.iconst 5, 1) := dk_8 (dk_at dksX11_room_2 18 rfl rfl)
theorem dX11_room_65 : decode cX11_room 65 = .ok (.iaload, 1) := dk_46 (dk_at dksX11_room_2 19 rfl rfl)
theorem dX11_room_66 : decode cX11_room 66 = .ok (.iconst 1, 1) := dk_4 (dk_at dksX11_room_2 20 rfl rfl)
theorem dX11_room_67 : decode cX11_room 67 = .ok (.iadd, 1) := dk_96 (dk_at dksX11_room_2 21 rfl rfl)
theorem dX11_room_68 : decode cX11_room 68 = .ok (.iastore, 1) := dk_79 (dk_at dksX11_room_2 22 rfl rfl)
theorem dX11_room_69 : decode cX11_room 69 = .ok (.aload_n 0, 1) := dk_42 (dk_at dksX11_room_2 23 rfl rfl)
theorem dX11_room_70 : decode cX11_room 70 = .ok (.iload_n 1, 1) := dk_27 (dk_at dksX11_room_3 0 rfl rfl)
theorem dX11_room_71 : decode cX11_room 71 = .ok (.invokevirtual 610, 3) := dk_182 2 98 (dk_at dksX11_room_3 1 rfl rfl)
theorem dX11_room_74 : decode cX11_room 74 = .ok (.ifCond .eq 9, 3) := dk_153 0 9 (dk_at dksX11_room_3 4 rfl rfl)
theorem dX11_room_77 : decode cX11_room 77 = .ok (.iinc 2 1, 3) := dk_132 2 1 (dk_at dksX11_room_3 7 rfl rfl)
theorem dX11_room_80 : decode cX11_room 80 = .ok (.goto (-11), 3) := dk_167 255 245 (dk_at dksX11_room_3 10 rfl rfl)
theorem dX11_room_83 : decode cX11_room 83 = .ok (.aload_n 0, 1) := dk_42 (dk_at dksX11_room_3 13 rfl rfl)
theorem dX11_room_84 : decode cX11_room 84 = .ok (.invokevirtual 597, 3) := dk_182 2 85 (dk_at dksX11_room_3 14 rfl rfl)
theorem dX11_room_87 : decode cX11_room 87 = .ok (.iload_n 2, 1) := dk_28 (dk_at dksX11_room_3 17 rfl rfl)
theorem dX11_room_88 : decode cX11_room 88 = .ok (.ireturn, 1) := dk_172 (dk_at dksX11_room_3 18 rfl rfl)
